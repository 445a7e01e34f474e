/-! POSTINGCODES: the private methods -/
set_option maxRecDepth 100000
set_option maxHeartbeats 4000000 in
/-- Postings.sealed -/
theorem m_sealed (l : Launch) (hst : l.stackTraces = false) (D : va_G) (dA : Nat → ClassId) (ap na ra : Nat) (tm kd : Int32) (cz : Int) (hcd : -1 ≤ cz ∧ cz ≤ 5) : pc_I l yX11_sealed cX11_sealed 1 .boolean (pc_rm 1 0 0) D dA [.ref ap] [(ap, .inr (7, [.ref na, .ref ra, .int (tm), .int (zI (cz)), .int (kd)]))] (fun r (_ : Unit) => r = zI ((b2n (decide (cz ≠ -1)) : Nat) : Int)) (fun _ => [(ap, .inr (7, [.ref na, .ref ra, .int (tm), .int (zI (cz)), .int (kd)]))]) := by
  refine st_i hst (by decide) RX11 rfl (Nat.le_of_ble_eq_true rfl) ?_
  intro pg ev s mt args below meth cd R A Q hR X exit H locs hw ls hl
  subst hR
  have hl : lv_has ls 1 [(0, .ref ap)] := hl
  refine lv_aload_n X.x X.b dX11_sealed_0 rfl (lv_at hl 0 rfl) ?_
  refine z_get X hw in_X11 0 rfl rfl 3 (by decide) q167 rfl rfl dX11_sealed_1 ?_
  refine z_iconst X dX11_sealed_4 ?_
  refine z_icmp_eq (tgt := 12) X dX11_sealed_5 (by decide) (by omega) (by omega) (fun c_1 => ?_) (fun c_1 => ?_)
  · skip
    refine z_iconst X dX11_sealed_12 ?_
    exact exit () dX11_sealed_13 (by decide) (by rw [show decide (cz ≠ -1) = false from by simp; omega]; rfl) hw (Nat.zero_le _) (Nat.zero_le _)
  · skip
    refine z_iconst X dX11_sealed_8 ?_
    refine lv_goto (tgt := 13) X.x X.b dX11_sealed_9 (by decide) ?_
    exact exit () dX11_sealed_13 (by decide) (by rw [show decide (cz ≠ -1) = true from by simp; omega]; rfl) hw (Nat.zero_le _) (Nat.zero_le _)
set_option maxHeartbeats 4000000 in
/-- Postings.last -/
theorem m_last (l : Launch) (hst : l.stackTraces = false) (D : va_G) (dA : Nat → ClassId) (ap na ra : Nat) (xs : List Nat) (g : Nat → Int32) (hv : Valid xs) (hg : ArrIs xs g) (cz kd : Int32) : pc_I l yX11_last cX11_last 1 .int (pc_rm 1 0 0) D dA [.ref ap] [(ap, .inr (7, [.ref na, .ref ra, .int (zI (((xs.length : Nat) : Int))), .int (cz), .int (kd)])), (na, .inl (dA 1, 24, .inl g))] (fun r (_ : Unit) => r = zI (lastN xs)) (fun _ => [(ap, .inr (7, [.ref na, .ref ra, .int (zI (((xs.length : Nat) : Int))), .int (cz), .int (kd)])), (na, .inl (dA 1, 24, .inl g))]) := by
  refine st_i hst (by decide) RX11 rfl (Nat.le_of_ble_eq_true rfl) ?_
  intro pg ev s mt args below meth cd R A Q hR X exit H locs hw ls hl
  subst hR
  have hl : lv_has ls 1 [(0, .ref ap)] := hl
  have hv1 := hv.1
  refine lv_aload_n X.x X.b dX11_last_0 rfl (lv_at hl 0 rfl) ?_
  refine z_get X hw in_X11 0 rfl rfl 2 (by decide) q165 rfl rfl dX11_last_1 ?_
  refine z_if_ne (tgt := 11) X dX11_last_4 (by decide) (by omega) (fun c_1 => ?_) (fun c_1 => ?_)
  · skip
    refine lv_aload_n X.x X.b dX11_last_11 rfl (lv_at hl 0 rfl) ?_
    refine z_get X hw in_X11 0 rfl rfl 0 (by decide) q160 rfl rfl dX11_last_12 ?_
    refine lv_aload_n X.x X.b dX11_last_15 rfl (lv_at hl 0 rfl) ?_
    refine z_get X hw in_X11 0 rfl rfl 2 (by decide) q165 rfl rfl dX11_last_16 ?_
    refine z_iconst X dX11_last_19 ?_
    refine z_isub X dX11_last_20 ?_
    refine z_sald X hw 1 (xs.length - 1) rfl (by decide) (by omega) (v := zI ((xs.getD (xs.length - 1) 0 : Nat) : Int)) (hg _ (by omega)) dX11_last_21 ?_
    exact exit () dX11_last_22 rfl (by unfold lastN; rw [if_neg (by omega)]) hw (Nat.zero_le _) (Nat.zero_le _)
  · skip
    refine z_iconst X dX11_last_7 ?_
    refine lv_goto (tgt := 22) X.x X.b dX11_last_8 (by decide) ?_
    exact exit () dX11_last_22 rfl (by unfold lastN; rw [if_pos (by omega)]) hw (Nat.zero_le _) (Nat.zero_le _)
set_option maxHeartbeats 4000000 in
/-- Cursor.here -/
theorem m_here (l : Launch) (hst : l.stackTraces = false) (D : va_G) (dA : Nat → ClassId) (cc cn ap na ra : Nat) (xs : List Nat) (f : Nat → Int32) (hv : Valid xs) (hf : ArrIs xs f) (cz kd : Int32) (pl : Nat) (hpl : pl ≤ xs.length) : pc_I l yX9_here cX9_here 1 .int (pc_rm 1 0 0) D dA [.ref cc] [(cc, .inr (8, [.ref ap, .ref cn, .int (zI (((pl : Nat) : Int)))])), (cn, .inl (dA 1, 24, .inl f)), (ap, .inr (7, [.ref na, .ref ra, .int (zI (((xs.length : Nat) : Int))), .int (cz), .int (kd)]))] (fun r (_ : Unit) => r = zI (hereI xs pl)) (fun _ => [(cc, .inr (8, [.ref ap, .ref cn, .int (zI (((pl : Nat) : Int)))])), (cn, .inl (dA 1, 24, .inl f)), (ap, .inr (7, [.ref na, .ref ra, .int (zI (((xs.length : Nat) : Int))), .int (cz), .int (kd)]))]) := by
  refine st_i hst (by decide) RX9 rfl (Nat.le_of_ble_eq_true rfl) ?_
  intro pg ev s mt args below meth cd R A Q hR X exit H locs hw ls hl
  subst hR
  have hl : lv_has ls 1 [(0, .ref cc)] := hl
  have hv1 := hv.1
  refine lv_aload_n X.x X.b dX9_here_0 rfl (lv_at hl 0 rfl) ?_
  refine z_get X hw in_X9 0 rfl rfl 2 (by decide) q124 rfl rfl dX9_here_1 ?_
  refine lv_aload_n X.x X.b dX9_here_4 rfl (lv_at hl 0 rfl) ?_
  refine z_get X hw in_X9 0 rfl rfl 0 (by decide) q120 rfl rfl dX9_here_5 ?_
  refine z_get X hw in_X11 2 rfl rfl 2 (by decide) q164 rfl rfl dX9_here_8 ?_
  refine z_icmp_ge (tgt := 26) X dX9_here_11 (by decide) (by omega) (by omega) (fun c_1 => ?_) (fun c_1 => ?_)
  · skip
    refine z_iconst X dX9_here_26 ?_
    exact exit () dX9_here_27 rfl (by unfold hereI; rw [if_neg (by omega)]) hw (Nat.zero_le _) (Nat.zero_le _)
  · skip
    refine lv_aload_n X.x X.b dX9_here_14 rfl (lv_at hl 0 rfl) ?_
    refine z_get X hw in_X9 0 rfl rfl 1 (by decide) q122 rfl rfl dX9_here_15 ?_
    refine lv_aload_n X.x X.b dX9_here_18 rfl (lv_at hl 0 rfl) ?_
    refine z_get X hw in_X9 0 rfl rfl 2 (by decide) q124 rfl rfl dX9_here_19 ?_
    refine z_sald X hw 1 pl rfl (by decide) (by omega) (v := zI ((xs.getD pl 0 : Nat) : Int)) (hf _ (by omega)) dX9_here_22 ?_
    refine lv_goto (tgt := 27) X.x X.b dX9_here_23 (by decide) ?_
    exact exit () dX9_here_27 rfl (by unfold hereI; rw [if_pos (by omega)]) hw (Nat.zero_le _) (Nat.zero_le _)
set_option maxHeartbeats 4000000 in
/-- Cursor.go -/
theorem m_go (l : Launch) (hst : l.stackTraces = false) (D : va_G) (dA : Nat → ClassId) (cc cn ap na ra : Nat) (xs : List Nat) (f : Nat → Int32) (hv : Valid xs) (hf : ArrIs xs f) (cz kd : Int32) (pl : Nat) (hpl : pl ≤ xs.length) (wz : Int) (hwz : -2147483648 ≤ wz ∧ wz < 2147483648) : pc_I l yX9_go cX9_go 2 .int (pc_rm 2 0 0) D dA [.ref cc, .int (zI (wz))] [(cc, .inr (8, [.ref ap, .ref cn, .int (zI (((pl : Nat) : Int)))])), (cn, .inl (dA 1, 24, .inl f)), (ap, .inr (7, [.ref na, .ref ra, .int (zI (((xs.length : Nat) : Int))), .int (cz), .int (kd)]))] (fun r (q : Nat) => GoP xs pl wz q ∧ r = zI (hereI xs q)) (fun q => [(cc, .inr (8, [.ref ap, .ref cn, .int (zI (((q : Nat) : Int)))])), (cn, .inl (dA 1, 24, .inl f)), (ap, .inr (7, [.ref na, .ref ra, .int (zI (((xs.length : Nat) : Int))), .int (cz), .int (kd)]))]) := by
  refine st_i hst (by decide) RX9 rfl (Nat.le_of_ble_eq_true rfl) ?_
  intro pg ev s mt args below meth cd R A Q hR X exit H locs hw ls hl
  subst hR
  have hl : lv_has ls 2 [(0, .ref cc), (1, .int (zI (wz)))] := hl
  have B0 : ∀ (NN : Nat) (q : Nat) (hq1 : pl ≤ q) (hq2 : q ≤ xs.length) (hq3 : ∀ j, pl ≤ j → j < q → ((xs.getD j 0 : Nat) : Int) < wz) (hNN : xs.length - q < NN) (H : Heap) (locs : List Loc), pc_S D A s.heap [(cc, .inr (8, [.ref ap, .ref cn, .int (zI (((q : Nat) : Int)))])), (cn, .inl (dA 1, 24, .inl f)), (ap, .inr (7, [.ref na, .ref ra, .int (zI (((xs.length : Nat) : Int))), .int (cz), .int (kd)]))] H locs → ∀ ls : Array Slot, lv_has ls 2 [(0, .ref cc), (1, .int (zI (wz)))] → W pg l ev (pc_rm 2 0 0) s mt args below meth cd H locs 0 0 Q (F0 mt 0 ls []) := by
    intro NN
    induction NN with
    | zero => intro q hq1 hq2 hq3 hNN; exact absurd hNN (Nat.not_lt_zero _)
    | succ NN ih0 =>
      intro q hq1 hq2 hq3 hNN H locs hw ls hl
      have hv1 := hv.1
      have hv1 := hv.1
      refine lv_aload_n X.x X.b dX9_go_0 rfl (lv_at hl 0 rfl) ?_
      refine z_get X hw in_X9 0 rfl rfl 2 (by decide) q124 rfl rfl dX9_go_1 ?_
      refine lv_aload_n X.x X.b dX9_go_4 rfl (lv_at hl 0 rfl) ?_
      refine z_get X hw in_X9 0 rfl rfl 0 (by decide) q120 rfl rfl dX9_go_5 ?_
      refine z_get X hw in_X11 2 rfl rfl 2 (by decide) q164 rfl rfl dX9_go_8 ?_
      refine z_icmp_ge (tgt := 40) X dX9_go_11 (by decide) (by omega) (by omega) (fun c_1 => ?_) (fun c_1 => ?_)
      · skip
        refine lv_aload_n X.x X.b dX9_go_40 rfl (lv_at hl 0 rfl) ?_
        refine cv_i (c1 := 0) (s1 := 0) X hw [0, 1, 2] [] (wr := []) (va_runV (As := []) (rest := []) X.fix (m_here l hst D dA cc cn ap na ra xs f hv hf (cz) (kd) q (by omega) _) (cwV 0 X.t (lw_V q636 q611 q612 q45 q613) rfl rfl rfl (by decide +kernel) (pc_rmle (by decide) (by decide))) (pc_preV X hw [0, 1, 2] rfl rfl 8 0 rfl rfl rfl) rfl rfl hl.1 rfl (lv_room (Nat.le_of_ble_eq_true rfl)) dX9_go_41 ⟨Nat.le_of_ble_eq_true rfl, Nat.le_of_ble_eq_true rfl⟩) rfl rfl rfl rfl (fun _ _ _ => pc_c00) (fun r_2 u_3 H locs hq hw => ?_)
        have hw : pc_S D A s.heap [(cc, .inr (8, [.ref ap, .ref cn, .int (zI (((q : Nat) : Int)))])), (cn, .inl (dA 1, 24, .inl f)), (ap, .inr (7, [.ref na, .ref ra, .int (zI (((xs.length : Nat) : Int))), .int (cz), .int (kd)]))] H locs := hw
        subst hq
        exact exit q dX9_go_44 rfl ⟨⟨hq1, hq2, hq3, fun h => by omega⟩, rfl⟩ hw (Nat.zero_le _) (Nat.zero_le _)
      · skip
        refine lv_aload_n X.x X.b dX9_go_14 rfl (lv_at hl 0 rfl) ?_
        refine z_get X hw in_X9 0 rfl rfl 1 (by decide) q122 rfl rfl dX9_go_15 ?_
        refine lv_aload_n X.x X.b dX9_go_18 rfl (lv_at hl 0 rfl) ?_
        refine z_get X hw in_X9 0 rfl rfl 2 (by decide) q124 rfl rfl dX9_go_19 ?_
        refine z_sald X hw 1 q rfl (by decide) (by omega) (v := zI ((xs.getD q 0 : Nat) : Int)) (hf _ (by omega)) dX9_go_22 ?_
        refine lv_iload_n X.x X.b dX9_go_23 rfl (lv_at hl 1 rfl) ?_
        have hx9 := hv.2.1 q (by omega)
        refine z_icmp_ge (tgt := 40) X dX9_go_24 (by decide) (by omega) (by omega) (fun c_4 => ?_) (fun c_4 => ?_)
        · skip
          refine lv_aload_n X.x X.b dX9_go_40 rfl (lv_at hl 0 rfl) ?_
          refine cv_i (c1 := 0) (s1 := 0) X hw [0, 1, 2] [] (wr := []) (va_runV (As := []) (rest := []) X.fix (m_here l hst D dA cc cn ap na ra xs f hv hf (cz) (kd) q (by omega) _) (cwV 0 X.t (lw_V q636 q611 q612 q45 q613) rfl rfl rfl (by decide +kernel) (pc_rmle (by decide) (by decide))) (pc_preV X hw [0, 1, 2] rfl rfl 8 0 rfl rfl rfl) rfl rfl hl.1 rfl (lv_room (Nat.le_of_ble_eq_true rfl)) dX9_go_41 ⟨Nat.le_of_ble_eq_true rfl, Nat.le_of_ble_eq_true rfl⟩) rfl rfl rfl rfl (fun _ _ _ => pc_c00) (fun r_5 u_6 H locs hq hw => ?_)
          have hw : pc_S D A s.heap [(cc, .inr (8, [.ref ap, .ref cn, .int (zI (((q : Nat) : Int)))])), (cn, .inl (dA 1, 24, .inl f)), (ap, .inr (7, [.ref na, .ref ra, .int (zI (((xs.length : Nat) : Int))), .int (cz), .int (kd)]))] H locs := hw
          subst hq
          exact exit q dX9_go_44 rfl ⟨⟨hq1, hq2, hq3, fun h => by omega⟩, rfl⟩ hw (Nat.zero_le _) (Nat.zero_le _)
        · skip
          refine lv_aload_n X.x X.b dX9_go_27 rfl (lv_at hl 0 rfl) ?_
          refine lv_dup X.x X.b dX9_go_28 rfl ?_
          refine z_get X hw in_X9 0 rfl rfl 2 (by decide) q124 rfl rfl dX9_go_29 ?_
          refine z_iconst X dX9_go_32 ?_
          refine z_iadd X dX9_go_33 ?_
          refine top_i (y := zI ((q + 1 : Nat) : Int)) (congrArg zI (by omega)) ?_
          refine z_put X hw in_X9 tyX9 tyX9_ok nmX9 0 rfl rfl 2 (by decide) q124 rfl rfl rfl rfl (Nat.le_of_ble_eq_true rfl) dX9_go_34 (fun H locs hw => ?_)
          have hw : pc_S D A s.heap [(cc, .inr (8, [.ref ap, .ref cn, .int (zI (((q + 1 : Nat) : Int)))])), (cn, .inl (dA 1, 24, .inl f)), (ap, .inr (7, [.ref na, .ref ra, .int (zI (((xs.length : Nat) : Int))), .int (cz), .int (kd)]))] H locs := hw
          refine lv_goto (tgt := 0) X.x X.b dX9_go_37 (by decide) ?_
          exact ih0  (q + 1) (by omega) (by omega) (fun j a b => by
              by_cases e : j = q
              · rw [e]; omega
              · exact hq3 j a (by omega)) (by omega) H locs hw ls (lv_sub hl [0, 1] rfl)
  exact B0 _ pl (Nat.le_refl _) hpl (fun j a b => absurd b (Nat.not_lt.mpr a)) (Nat.lt_succ_self _) H locs hw ls (lv_sub hl [0, 1] rfl)
set_option maxHeartbeats 4000000 in
/-- list, there -/
theorem m_list_t (l : Launch) (hst : l.stackTraces = false) (D : va_G) (dA : Nat → ClassId) (h0 aco ali acu a1 a2 apd asc fo wn bn : Nat) (hwb : wn ≤ 1000 ∧ bn ≤ 1000) (lf : Nat → Option Nat) (z : Int) (k ap : Nat) (hz : z = k ∧ k < 4) (hl9 : lf k = some ap) : pc_Q l yX1_list cX1_list 2 (.object "PostingCodes$Postings") (pc_rm 2 0 0) D dA [.ref h0, .int (zI (z))] [(h0, .inr (9, [.ref aco, .ref ali, .ref acu, .ref a1, .ref a2, .ref apd, .ref asc, .ref fo, .int (zI (((wn : Nat) : Int))), .int (zI (((bn : Nat) : Int)))])), (ali, .inl (dA 6, 4, .inr (.inr (.inr (.inr lf)))))] (fun r (_ : Unit) => r = some ap) (fun _ => [(h0, .inr (9, [.ref aco, .ref ali, .ref acu, .ref a1, .ref a2, .ref apd, .ref asc, .ref fo, .int (zI (((wn : Nat) : Int))), .int (zI (((bn : Nat) : Int)))])), (ali, .inl (dA 6, 4, .inr (.inr (.inr (.inr lf)))))]) := by
  refine st_q hst (by decide) RX1 rfl (Nat.le_of_ble_eq_true rfl) (Or.inl ⟨_, rfl⟩) ?_
  intro pg ev s mt args below meth cd R A Q hR X exit H locs hw ls hl
  subst hR
  have hl : lv_has ls 2 [(0, .ref h0), (1, .int (zI (z)))] := hl
  refine lv_iload_n X.x X.b dX1_list_0 rfl (lv_at hl 1 rfl) ?_
  refine z_iconst X dX1_list_1 ?_
  refine cv_v (c1 := 0) (s1 := 0) X hw [] [0, 1] (wr := [(h0, .inr (9, [.ref aco, .ref ali, .ref acu, .ref a1, .ref a2, .ref apd, .ref asc, .ref fo, .int (zI (((wn : Nat) : Int))), .int (zI (((bn : Nat) : Int)))])), (ali, .inl (dA 6, 4, .inr (.inr (.inr (.inr lf)))))]) (va_runS (As := [.int (zI (z)), .int (zI 4)]) (rest := []) X.fix (m_exists_t l hst D dA z 4 (by omega) (by omega) _) (va_cwS 2 X.t (lw_S q239 q240 q37 q241) rfl rfl rfl (by decide +kernel) (pc_rmle (by decide) (by decide))) (pc_preS X hw [] rfl rfl) rfl rfl hl.1 rfl (lv_room (Nat.le_of_ble_eq_true rfl)) dX1_list_2 ⟨Nat.le_of_ble_eq_true rfl, Nat.le_of_ble_eq_true rfl⟩) rfl rfl rfl rfl (fun _ _ => pc_c00) (fun u_2 H locs hq hw => ?_)
  have hw : pc_S D A s.heap [(h0, .inr (9, [.ref aco, .ref ali, .ref acu, .ref a1, .ref a2, .ref apd, .ref asc, .ref fo, .int (zI (((wn : Nat) : Int))), .int (zI (((bn : Nat) : Int)))])), (ali, .inl (dA 6, 4, .inr (.inr (.inr (.inr lf)))))] H locs := hw
  refine lv_aload_n X.x X.b dX1_list_5 rfl (lv_at hl 0 rfl) ?_
  refine z_get X hw in_X1 0 rfl rfl 1 (by decide) q183 rfl rfl dX1_list_6 ?_
  refine lv_iload_n X.x X.b dX1_list_9 rfl (lv_at hl 1 rfl) ?_
  refine z_aald X hw 1 6 k rfl rfl (by decide) (by omega) (v := .ref ap) (congrArg va_rf hl9) dX1_list_10 ?_
  exact exit (r := some ap) () dX1_list_11 rfl hw (Nat.zero_le _) (Nat.zero_le _)
set_option maxHeartbeats 4000000 in
/-- list, not there -/
theorem m_list_f (l : Launch) (hst : l.stackTraces = false) (D : va_G) (dA : Nat → ClassId) (h0 aco ali acu a1 a2 apd asc fo wn bn : Nat) (hwb : wn ≤ 1000 ∧ bn ≤ 1000) (lf : Nat → Option Nat) (z : Int) (hz : ¬ (0 ≤ z ∧ z < 4)) (hr : -2147483648 ≤ z ∧ z < 2147483648) : px_Q l yX1_list (ws_ yX1_list cX1_list 2 (some (.object "PostingCodes$Postings"))) (pc_rm 2 1 6) D dA [.ref h0, .int (zI (z))] [(h0, .inr (9, [.ref aco, .ref ali, .ref acu, .ref a1, .ref a2, .ref apd, .ref asc, .ref fo, .int (zI (((wn : Nat) : Int))), .int (zI (((bn : Nat) : Int)))])), (ali, .inl (dA 6, 4, .inr (.inr (.inr (.inr lf)))))] (fun _ (_ : Unit) => False) (fun _ => [(h0, .inr (9, [.ref aco, .ref ali, .ref acu, .ref a1, .ref a2, .ref apd, .ref asc, .ref fo, .int (zI (((wn : Nat) : Int))), .int (zI (((bn : Nat) : Int)))])), (ali, .inl (dA 6, 4, .inr (.inr (.inr (.inr lf)))))]) (fun E (_ : Unit) => E = xNSEE) (fun _ => [(h0, .inr (9, [.ref aco, .ref ali, .ref acu, .ref a1, .ref a2, .ref apd, .ref asc, .ref fo, .int (zI (((wn : Nat) : Int))), .int (zI (((bn : Nat) : Int)))])), (ali, .inl (dA 6, 4, .inr (.inr (.inr (.inr lf)))))]) := by
  refine sx_q hst (by decide) RX1 rfl (Nat.le_of_ble_eq_true rfl) (Or.inl ⟨_, rfl⟩) ?_
  intro pg ev s mt args below meth cd R A Q hR X exit hout hthr H locs hw ls hl
  subst hR
  have hl : lv_has ls 2 [(0, .ref h0), (1, .int (zI (z)))] := hl
  refine lv_iload_n X.x X.b dX1_list_0 rfl (lv_at hl 1 rfl) ?_
  refine z_iconst X dX1_list_1 ?_
  refine cx_v (c1 := 0) (s1 := 0) X hw [] [0, 1] (wr := [(h0, .inr (9, [.ref aco, .ref ali, .ref acu, .ref a1, .ref a2, .ref apd, .ref asc, .ref fo, .int (zI (((wn : Nat) : Int))), .int (zI (((bn : Nat) : Int)))])), (ali, .inl (dA 6, 4, .inr (.inr (.inr (.inr lf)))))]) (vx_runS (As := [.int (zI (z)), .int (zI 4)]) (rest := []) X.fix (m_exists_f l hst D dA z 4 (by omega) (by omega) (by omega) _) (va_cwS 2 X.t (lw_S q239 q240 q37 q241) rfl rfl rfl (by decide +kernel) (pc_rmle (by decide) (by decide))) (pc_preS X hw [] rfl rfl) rfl rfl hl.1 rfl (lv_room (Nat.le_of_ble_eq_true rfl)) dX1_list_2 ⟨Nat.le_refl _, Nat.le_refl _⟩) rfl rfl rfl rfl (fun E ce q9 ux_3 H locs hq hw h1 h2 h3 => ?_) (fun u hq => hq.elim) (fun u_2 H locs hq hw => ?_)
  · skip
    have hw : pc_S D A s.heap [(h0, .inr (9, [.ref aco, .ref ali, .ref acu, .ref a1, .ref a2, .ref apd, .ref asc, .ref fo, .int (zI (((wn : Nat) : Int))), .int (zI (((bn : Nat) : Int)))])), (ali, .inl (dA 6, 4, .inr (.inr (.inr (.inr lf)))))] H locs := hw
    exact hout () h1 h2 h3 hq hw (Nat.le_refl _) (Nat.le_refl _)
  · skip
    have hw : pc_S D A s.heap [(h0, .inr (9, [.ref aco, .ref ali, .ref acu, .ref a1, .ref a2, .ref apd, .ref asc, .ref fo, .int (zI (((wn : Nat) : Int))), .int (zI (((bn : Nat) : Int)))])), (ali, .inl (dA 6, 4, .inr (.inr (.inr (.inr lf)))))] H locs := hw
    exact hq.elim
set_option maxHeartbeats 4000000 in
/-- sealedList, sealed -/
theorem m_slist_t (l : Launch) (hst : l.stackTraces = false) (D : va_G) (dA : Nat → ClassId) (h0 aco ali acu a1 a2 apd asc fo wn bn : Nat) (hwb : wn ≤ 1000 ∧ bn ≤ 1000) (lf : Nat → Option Nat) (z : Int) (k ap na ra : Nat) (tm kd : Int32) (cz : Int) (hz : z = k ∧ k < 4) (hl9 : lf k = some ap) (hcd : 0 ≤ cz ∧ cz ≤ 5) : pc_Q l yX1_sealedList cX1_sealedList 3 (.object "PostingCodes$Postings") (pc_rm 3 0 0) D dA [.ref h0, .int (zI (z))] [(h0, .inr (9, [.ref aco, .ref ali, .ref acu, .ref a1, .ref a2, .ref apd, .ref asc, .ref fo, .int (zI (((wn : Nat) : Int))), .int (zI (((bn : Nat) : Int)))])), (ali, .inl (dA 6, 4, .inr (.inr (.inr (.inr lf))))), (ap, .inr (7, [.ref na, .ref ra, .int (tm), .int (zI (cz)), .int (kd)]))] (fun r (_ : Unit) => r = some ap) (fun _ => [(h0, .inr (9, [.ref aco, .ref ali, .ref acu, .ref a1, .ref a2, .ref apd, .ref asc, .ref fo, .int (zI (((wn : Nat) : Int))), .int (zI (((bn : Nat) : Int)))])), (ali, .inl (dA 6, 4, .inr (.inr (.inr (.inr lf))))), (ap, .inr (7, [.ref na, .ref ra, .int (tm), .int (zI (cz)), .int (kd)]))]) := by
  refine st_q hst (by decide) RX1 rfl (Nat.le_of_ble_eq_true rfl) (Or.inl ⟨_, rfl⟩) ?_
  intro pg ev s mt args below meth cd R A Q hR X exit H locs hw ls hl
  subst hR
  have hl : lv_has ls 3 [(0, .ref h0), (1, .int (zI (z)))] := hl
  refine lv_aload_n X.x X.b dX1_sealedList_0 rfl (lv_at hl 0 rfl) ?_
  refine lv_iload_n X.x X.b dX1_sealedList_1 rfl (lv_at hl 1 rfl) ?_
  refine cv_q (c1 := 0) (s1 := 0) X hw [0, 1] [2] (wr := [(ap, .inr (7, [.ref na, .ref ra, .int (tm), .int (zI (cz)), .int (kd)]))]) (va_runV (As := [.int (zI (z))]) (rest := []) X.fix (m_list_t l hst D dA h0 aco ali acu a1 a2 apd asc fo wn bn hwb lf z k ap hz hl9 _) (cwV 1 X.t (lw_V q235 q237 qs1 q37 q238) rfl rfl rfl (by decide +kernel) (pc_rmle (by decide) (by decide))) (pc_preV X hw [0, 1] rfl rfl 9 0 rfl rfl rfl) rfl rfl hl.1 rfl (lv_room (Nat.le_of_ble_eq_true rfl)) dX1_sealedList_2 ⟨Nat.le_of_ble_eq_true rfl, Nat.le_of_ble_eq_true rfl⟩) rfl rfl rfl rfl (fun _ _ _ => pc_c00) (fun r_1 u_2 H locs hq hw => ?_)
  have hw : pc_S D A s.heap [(ap, .inr (7, [.ref na, .ref ra, .int (tm), .int (zI (cz)), .int (kd)])), (h0, .inr (9, [.ref aco, .ref ali, .ref acu, .ref a1, .ref a2, .ref apd, .ref asc, .ref fo, .int (zI (((wn : Nat) : Int))), .int (zI (((bn : Nat) : Int)))])), (ali, .inl (dA 6, 4, .inr (.inr (.inr (.inr lf)))))] H locs := hw
  subst hq
  refine lv_astore_n (lv' := [(2, .ref ap), (0, .ref h0), (1, .int (zI (z)))]) X.x X.b dX1_sealedList_5 rfl hl (by decide) rfl (fun ls hl => ?_)
  refine lv_aload_n X.x X.b dX1_sealedList_6 rfl (lv_at hl 0 rfl) ?_
  refine cv_i (c1 := 0) (s1 := 0) X hw [0] [1, 2] (wr := [(h0, .inr (9, [.ref aco, .ref ali, .ref acu, .ref a1, .ref a2, .ref apd, .ref asc, .ref fo, .int (zI (((wn : Nat) : Int))), .int (zI (((bn : Nat) : Int)))])), (ali, .inl (dA 6, 4, .inr (.inr (.inr (.inr lf)))))]) (va_runV (As := []) (rest := []) X.fix (m_sealed l hst D dA ap na ra (tm) (kd) cz (by omega) _) (cwV 0 X.t (lw_V q221 q222 q223 q47 q224) rfl rfl rfl (by decide +kernel) (pc_rmle (by decide) (by decide))) (pc_preV X hw [0] rfl rfl 7 0 rfl rfl rfl) rfl rfl hl.1 rfl (lv_room (Nat.le_of_ble_eq_true rfl)) dX1_sealedList_7 ⟨Nat.le_of_ble_eq_true rfl, Nat.le_of_ble_eq_true rfl⟩) rfl rfl rfl rfl (fun _ _ _ => pc_c00) (fun r_3 u_4 H locs hq hw => ?_)
  have hw : pc_S D A s.heap [(h0, .inr (9, [.ref aco, .ref ali, .ref acu, .ref a1, .ref a2, .ref apd, .ref asc, .ref fo, .int (zI (((wn : Nat) : Int))), .int (zI (((bn : Nat) : Int)))])), (ali, .inl (dA 6, 4, .inr (.inr (.inr (.inr lf))))), (ap, .inr (7, [.ref na, .ref ra, .int (tm), .int (zI (cz)), .int (kd)]))] H locs := hw
  subst hq
  have hb7 := b2n_le (decide (cz ≠ -1))
  refine top_i (y := zI 1) (by rw [show decide (cz ≠ -1) = true from by simp; omega]; rfl) ?_
  refine cv_v (c1 := 0) (s1 := 0) X hw [] [0, 1, 2] (wr := [(h0, .inr (9, [.ref aco, .ref ali, .ref acu, .ref a1, .ref a2, .ref apd, .ref asc, .ref fo, .int (zI (((wn : Nat) : Int))), .int (zI (((bn : Nat) : Int)))])), (ali, .inl (dA 6, 4, .inr (.inr (.inr (.inr lf))))), (ap, .inr (7, [.ref na, .ref ra, .int (tm), .int (zI (cz)), .int (kd)]))]) (va_runS (As := [.int (zI 1)]) (rest := []) X.fix (m_must_t l hst D dA _) (va_cwS 1 X.t (lw_S q327 q328 q37 q329) rfl rfl rfl (by decide +kernel) (pc_rmle (by decide) (by decide))) (pc_preS X hw [] rfl rfl) rfl rfl hl.1 rfl (lv_room (Nat.le_of_ble_eq_true rfl)) dX1_sealedList_10 ⟨Nat.le_of_ble_eq_true rfl, Nat.le_of_ble_eq_true rfl⟩) rfl rfl rfl rfl (fun _ _ => pc_c00) (fun u_6 H locs hq hw => ?_)
  have hw : pc_S D A s.heap [(h0, .inr (9, [.ref aco, .ref ali, .ref acu, .ref a1, .ref a2, .ref apd, .ref asc, .ref fo, .int (zI (((wn : Nat) : Int))), .int (zI (((bn : Nat) : Int)))])), (ali, .inl (dA 6, 4, .inr (.inr (.inr (.inr lf))))), (ap, .inr (7, [.ref na, .ref ra, .int (tm), .int (zI (cz)), .int (kd)]))] H locs := hw
  refine lv_aload_n X.x X.b dX1_sealedList_13 rfl (lv_at hl 0 rfl) ?_
  exact exit (r := some ap) () dX1_sealedList_14 rfl hw (Nat.zero_le _) (Nat.zero_le _)
set_option maxHeartbeats 4000000 in
/-- sealedList, open -/
theorem m_slist_o (l : Launch) (hst : l.stackTraces = false) (D : va_G) (dA : Nat → ClassId) (h0 aco ali acu a1 a2 apd asc fo wn bn : Nat) (hwb : wn ≤ 1000 ∧ bn ≤ 1000) (lf : Nat → Option Nat) (z : Int) (k ap na ra : Nat) (tm kd : Int32) (cz : Int) (hz : z = k ∧ k < 4) (hl9 : lf k = some ap) (hcd : cz = -1) : px_Q l yX1_sealedList (ws_ yX1_sealedList cX1_sealedList 3 (some (.object "PostingCodes$Postings"))) (pc_rm 3 1 6) D dA [.ref h0, .int (zI (z))] [(h0, .inr (9, [.ref aco, .ref ali, .ref acu, .ref a1, .ref a2, .ref apd, .ref asc, .ref fo, .int (zI (((wn : Nat) : Int))), .int (zI (((bn : Nat) : Int)))])), (ali, .inl (dA 6, 4, .inr (.inr (.inr (.inr lf))))), (ap, .inr (7, [.ref na, .ref ra, .int (tm), .int (zI (cz)), .int (kd)]))] (fun _ (_ : Unit) => False) (fun _ => [(h0, .inr (9, [.ref aco, .ref ali, .ref acu, .ref a1, .ref a2, .ref apd, .ref asc, .ref fo, .int (zI (((wn : Nat) : Int))), .int (zI (((bn : Nat) : Int)))])), (ali, .inl (dA 6, 4, .inr (.inr (.inr (.inr lf))))), (ap, .inr (7, [.ref na, .ref ra, .int (tm), .int (zI (cz)), .int (kd)]))]) (fun E (_ : Unit) => E = xISE) (fun _ => [(h0, .inr (9, [.ref aco, .ref ali, .ref acu, .ref a1, .ref a2, .ref apd, .ref asc, .ref fo, .int (zI (((wn : Nat) : Int))), .int (zI (((bn : Nat) : Int)))])), (ali, .inl (dA 6, 4, .inr (.inr (.inr (.inr lf))))), (ap, .inr (7, [.ref na, .ref ra, .int (tm), .int (zI (cz)), .int (kd)]))]) := by
  refine sx_q hst (by decide) RX1 rfl (Nat.le_of_ble_eq_true rfl) (Or.inl ⟨_, rfl⟩) ?_
  intro pg ev s mt args below meth cd R A Q hR X exit hout hthr H locs hw ls hl
  subst hR
  have hl : lv_has ls 3 [(0, .ref h0), (1, .int (zI (z)))] := hl
  refine lv_aload_n X.x X.b dX1_sealedList_0 rfl (lv_at hl 0 rfl) ?_
  refine lv_iload_n X.x X.b dX1_sealedList_1 rfl (lv_at hl 1 rfl) ?_
  refine cv_q (c1 := 0) (s1 := 0) X hw [0, 1] [2] (wr := [(ap, .inr (7, [.ref na, .ref ra, .int (tm), .int (zI (cz)), .int (kd)]))]) (va_runV (As := [.int (zI (z))]) (rest := []) X.fix (m_list_t l hst D dA h0 aco ali acu a1 a2 apd asc fo wn bn hwb lf z k ap hz hl9 _) (cwV 1 X.t (lw_V q235 q237 qs1 q37 q238) rfl rfl rfl (by decide +kernel) (pc_rmle (by decide) (by decide))) (pc_preV X hw [0, 1] rfl rfl 9 0 rfl rfl rfl) rfl rfl hl.1 rfl (lv_room (Nat.le_of_ble_eq_true rfl)) dX1_sealedList_2 ⟨Nat.le_of_ble_eq_true rfl, Nat.le_of_ble_eq_true rfl⟩) rfl rfl rfl rfl (fun _ _ _ => pc_c00) (fun r_1 u_2 H locs hq hw => ?_)
  have hw : pc_S D A s.heap [(ap, .inr (7, [.ref na, .ref ra, .int (tm), .int (zI (cz)), .int (kd)])), (h0, .inr (9, [.ref aco, .ref ali, .ref acu, .ref a1, .ref a2, .ref apd, .ref asc, .ref fo, .int (zI (((wn : Nat) : Int))), .int (zI (((bn : Nat) : Int)))])), (ali, .inl (dA 6, 4, .inr (.inr (.inr (.inr lf)))))] H locs := hw
  subst hq
  refine lv_astore_n (lv' := [(2, .ref ap), (0, .ref h0), (1, .int (zI (z)))]) X.x X.b dX1_sealedList_5 rfl hl (by decide) rfl (fun ls hl => ?_)
  refine lv_aload_n X.x X.b dX1_sealedList_6 rfl (lv_at hl 0 rfl) ?_
  refine cv_i (c1 := 0) (s1 := 0) X hw [0] [1, 2] (wr := [(h0, .inr (9, [.ref aco, .ref ali, .ref acu, .ref a1, .ref a2, .ref apd, .ref asc, .ref fo, .int (zI (((wn : Nat) : Int))), .int (zI (((bn : Nat) : Int)))])), (ali, .inl (dA 6, 4, .inr (.inr (.inr (.inr lf)))))]) (va_runV (As := []) (rest := []) X.fix (m_sealed l hst D dA ap na ra (tm) (kd) cz (by omega) _) (cwV 0 X.t (lw_V q221 q222 q223 q47 q224) rfl rfl rfl (by decide +kernel) (pc_rmle (by decide) (by decide))) (pc_preV X hw [0] rfl rfl 7 0 rfl rfl rfl) rfl rfl hl.1 rfl (lv_room (Nat.le_of_ble_eq_true rfl)) dX1_sealedList_7 ⟨Nat.le_of_ble_eq_true rfl, Nat.le_of_ble_eq_true rfl⟩) rfl rfl rfl rfl (fun _ _ _ => pc_c00) (fun r_3 u_4 H locs hq hw => ?_)
  have hw : pc_S D A s.heap [(h0, .inr (9, [.ref aco, .ref ali, .ref acu, .ref a1, .ref a2, .ref apd, .ref asc, .ref fo, .int (zI (((wn : Nat) : Int))), .int (zI (((bn : Nat) : Int)))])), (ali, .inl (dA 6, 4, .inr (.inr (.inr (.inr lf))))), (ap, .inr (7, [.ref na, .ref ra, .int (tm), .int (zI (cz)), .int (kd)]))] H locs := hw
  subst hq
  have hb7 := b2n_le (decide (cz ≠ -1))
  refine top_i (y := zI 0) (by rw [show decide (cz ≠ -1) = false from by simp; omega]; rfl) ?_
  refine cx_v (c1 := 0) (s1 := 0) X hw [] [0, 1, 2] (wr := [(h0, .inr (9, [.ref aco, .ref ali, .ref acu, .ref a1, .ref a2, .ref apd, .ref asc, .ref fo, .int (zI (((wn : Nat) : Int))), .int (zI (((bn : Nat) : Int)))])), (ali, .inl (dA 6, 4, .inr (.inr (.inr (.inr lf))))), (ap, .inr (7, [.ref na, .ref ra, .int (tm), .int (zI (cz)), .int (kd)]))]) (vx_runS (As := [.int (zI 0)]) (rest := []) X.fix (m_must_f l hst D dA _) (va_cwS 1 X.t (lw_S q327 q328 q37 q329) rfl rfl rfl (by decide +kernel) (pc_rmle (by decide) (by decide))) (pc_preS X hw [] rfl rfl) rfl rfl hl.1 rfl (lv_room (Nat.le_of_ble_eq_true rfl)) dX1_sealedList_10 ⟨Nat.le_refl _, Nat.le_refl _⟩) rfl rfl rfl rfl (fun E ce q9 ux_7 H locs hq hw h1 h2 h3 => ?_) (fun u hq => hq.elim) (fun u_6 H locs hq hw => ?_)
  · skip
    have hw : pc_S D A s.heap [(h0, .inr (9, [.ref aco, .ref ali, .ref acu, .ref a1, .ref a2, .ref apd, .ref asc, .ref fo, .int (zI (((wn : Nat) : Int))), .int (zI (((bn : Nat) : Int)))])), (ali, .inl (dA 6, 4, .inr (.inr (.inr (.inr lf))))), (ap, .inr (7, [.ref na, .ref ra, .int (tm), .int (zI (cz)), .int (kd)]))] H locs := hw
    exact hout () h1 h2 h3 hq hw (Nat.le_refl _) (Nat.le_refl _)
  · skip
    have hw : pc_S D A s.heap [(h0, .inr (9, [.ref aco, .ref ali, .ref acu, .ref a1, .ref a2, .ref apd, .ref asc, .ref fo, .int (zI (((wn : Nat) : Int))), .int (zI (((bn : Nat) : Int)))])), (ali, .inl (dA 6, 4, .inr (.inr (.inr (.inr lf))))), (ap, .inr (7, [.ref na, .ref ra, .int (tm), .int (zI (cz)), .int (kd)]))] H locs := hw
    exact hq.elim
set_option maxHeartbeats 4000000 in
/-- sealedList, not there -/
theorem m_slist_f (l : Launch) (hst : l.stackTraces = false) (D : va_G) (dA : Nat → ClassId) (h0 aco ali acu a1 a2 apd asc fo wn bn : Nat) (hwb : wn ≤ 1000 ∧ bn ≤ 1000) (lf : Nat → Option Nat) (z : Int) (hz : ¬ (0 ≤ z ∧ z < 4)) (hr : -2147483648 ≤ z ∧ z < 2147483648) : px_Q l yX1_sealedList (ws_ yX1_sealedList cX1_sealedList 3 (some (.object "PostingCodes$Postings"))) (pc_rm 3 1 6) D dA [.ref h0, .int (zI (z))] [(h0, .inr (9, [.ref aco, .ref ali, .ref acu, .ref a1, .ref a2, .ref apd, .ref asc, .ref fo, .int (zI (((wn : Nat) : Int))), .int (zI (((bn : Nat) : Int)))])), (ali, .inl (dA 6, 4, .inr (.inr (.inr (.inr lf)))))] (fun _ (_ : Unit) => False) (fun _ => [(h0, .inr (9, [.ref aco, .ref ali, .ref acu, .ref a1, .ref a2, .ref apd, .ref asc, .ref fo, .int (zI (((wn : Nat) : Int))), .int (zI (((bn : Nat) : Int)))])), (ali, .inl (dA 6, 4, .inr (.inr (.inr (.inr lf)))))]) (fun E (_ : Unit) => E = xNSEE) (fun _ => [(h0, .inr (9, [.ref aco, .ref ali, .ref acu, .ref a1, .ref a2, .ref apd, .ref asc, .ref fo, .int (zI (((wn : Nat) : Int))), .int (zI (((bn : Nat) : Int)))])), (ali, .inl (dA 6, 4, .inr (.inr (.inr (.inr lf)))))]) := by
  refine sx_q hst (by decide) RX1 rfl (Nat.le_of_ble_eq_true rfl) (Or.inl ⟨_, rfl⟩) ?_
  intro pg ev s mt args below meth cd R A Q hR X exit hout hthr H locs hw ls hl
  subst hR
  have hl : lv_has ls 3 [(0, .ref h0), (1, .int (zI (z)))] := hl
  refine lv_aload_n X.x X.b dX1_sealedList_0 rfl (lv_at hl 0 rfl) ?_
  refine lv_iload_n X.x X.b dX1_sealedList_1 rfl (lv_at hl 1 rfl) ?_
  refine cx_q (c1 := 0) (s1 := 0) X hw [0, 1] [] (wr := []) (vx_runV (As := [.int (zI (z))]) (rest := []) X.fix (m_list_f l hst D dA h0 aco ali acu a1 a2 apd asc fo wn bn hwb lf z (by omega) (by omega) _) (cwV 1 X.t (lw_V q235 q237 qs1 q37 q238) rfl rfl rfl (by decide +kernel) (pc_rmle (by decide) (by decide))) (pc_preV X hw [0, 1] rfl rfl 9 0 rfl rfl rfl) rfl rfl hl.1 rfl (lv_room (Nat.le_of_ble_eq_true rfl)) dX1_sealedList_2 ⟨Nat.le_refl _, Nat.le_refl _⟩) rfl rfl rfl rfl (fun E ce q9 ux_3 H locs hq hw h1 h2 h3 => ?_) (fun r u hq => hq.elim) (fun r_1 u_2 H locs hq hw => ?_)
  · skip
    have hw : pc_S D A s.heap [(h0, .inr (9, [.ref aco, .ref ali, .ref acu, .ref a1, .ref a2, .ref apd, .ref asc, .ref fo, .int (zI (((wn : Nat) : Int))), .int (zI (((bn : Nat) : Int)))])), (ali, .inl (dA 6, 4, .inr (.inr (.inr (.inr lf)))))] H locs := hw
    exact hout () h1 h2 h3 hq hw (Nat.le_refl _) (Nat.le_refl _)
  · skip
    have hw : pc_S D A s.heap [(h0, .inr (9, [.ref aco, .ref ali, .ref acu, .ref a1, .ref a2, .ref apd, .ref asc, .ref fo, .int (zI (((wn : Nat) : Int))), .int (zI (((bn : Nat) : Int)))])), (ali, .inl (dA 6, 4, .inr (.inr (.inr (.inr lf)))))] H locs := hw
    exact hq.elim
set_option maxHeartbeats 4000000 in
/-- known -/
theorem m_known_t (l : Launch) (hst : l.stackTraces = false) (D : va_G) (dA : Nat → ClassId) (zc zk : Int) (h : 0 ≤ zc ∧ zc < 6 ∧ 0 ≤ zk ∧ zk < 8) : pc_V l yX1_known cX1_known 2 (pc_rm 2 0 0) D dA [.int (zI (zc)), .int (zI (zk))] [] (fun _ : Unit => True) (fun _ => []) := by
  refine st_v hst (by decide) RX1 rfl (Nat.le_of_ble_eq_true rfl) ?_
  intro pg ev s mt args below meth cd R A Q hR X hin exit H locs hw ls hl
  subst hR
  have hl : lv_has ls 2 [(0, .int (zI (zc))), (1, .int (zI (zk)))] := hl
  refine lv_iload_n X.x X.b dX1_known_0 rfl (lv_at hl 0 rfl) ?_
  refine z_if_lt (tgt := 24) X dX1_known_1 (by decide) (by omega) (fun c_1 => ?_) (fun c_1 => ?_)
  · skip
    omega
  · skip
    refine lv_iload_n X.x X.b dX1_known_4 rfl (lv_at hl 0 rfl) ?_
    refine z_bipush X dX1_known_5 (by decide) ?_
    refine z_icmp_ge (tgt := 24) X dX1_known_7 (by decide) (by omega) (by omega) (fun c_2 => ?_) (fun c_2 => ?_)
    · skip
      omega
    · skip
      refine lv_iload_n X.x X.b dX1_known_10 rfl (lv_at hl 1 rfl) ?_
      refine z_if_lt (tgt := 24) X dX1_known_11 (by decide) (by omega) (fun c_3 => ?_) (fun c_3 => ?_)
      · skip
        omega
      · skip
        refine lv_iload_n X.x X.b dX1_known_14 rfl (lv_at hl 1 rfl) ?_
        refine z_bipush X dX1_known_15 (by decide) ?_
        refine z_icmp_ge (tgt := 24) X dX1_known_17 (by decide) (by omega) (by omega) (fun c_4 => ?_) (fun c_4 => ?_)
        · skip
          omega
        · skip
          refine z_iconst X dX1_known_20 ?_
          refine lv_goto (tgt := 25) X.x X.b dX1_known_21 (by decide) ?_
          refine cv_v (c1 := 0) (s1 := 0) X hw [] [] (wr := []) (va_runS (As := [.int (zI 1)]) (rest := []) X.fix (m_allow_t l hst D dA _) (va_cwS 1 X.t (lw_S q309 q310 q37 q311) rfl rfl rfl (by decide +kernel) (pc_rmle (by decide) (by decide))) (pc_preS X hw [] rfl rfl) rfl rfl hl.1 rfl (lv_room (Nat.le_of_ble_eq_true rfl)) dX1_known_25 ⟨Nat.le_of_ble_eq_true rfl, Nat.le_of_ble_eq_true rfl⟩) rfl rfl rfl rfl (fun _ _ => pc_c00) (fun u_6 H locs hq hw => ?_)
          have hw : pc_S D A s.heap [] H locs := hw
          exact exit () dX1_known_28 trivial hw (Nat.zero_le _) (Nat.zero_le _)
set_option maxHeartbeats 4000000 in
/-- not known -/
theorem m_known_f (l : Launch) (hst : l.stackTraces = false) (D : va_G) (dA : Nat → ClassId) (zc zk : Int) (hr : -2147483648 ≤ zc ∧ zc < 2147483648) (hr2 : -2147483648 ≤ zk ∧ zk < 2147483648) (h : ¬ (0 ≤ zc ∧ zc < 6 ∧ 0 ≤ zk ∧ zk < 8)) : px_V l yX1_known (ws_ yX1_known cX1_known 2 none) (pc_rm 2 1 6) D dA [.int (zI (zc)), .int (zI (zk))] [] (fun _ : Unit => False) (fun _ => []) (fun E (_ : Unit) => E = xIAE) (fun _ => []) := by
  refine sx_v hst (by decide) RX1 rfl (Nat.le_of_ble_eq_true rfl) ?_
  intro pg ev s mt args below meth cd R A Q hR X exit hout hthr H locs hw ls hl
  subst hR
  have hl : lv_has ls 2 [(0, .int (zI (zc))), (1, .int (zI (zk)))] := hl
  refine lv_iload_n X.x X.b dX1_known_0 rfl (lv_at hl 0 rfl) ?_
  refine z_if_lt (tgt := 24) X dX1_known_1 (by decide) (by omega) (fun c_1 => ?_) (fun c_1 => ?_)
  · skip
    refine z_iconst X dX1_known_24 ?_
    refine cx_v (c1 := 0) (s1 := 0) X hw [] [] (wr := []) (vx_runS (As := [.int (zI 0)]) (rest := []) X.fix (m_allow_f l hst D dA _) (va_cwS 1 X.t (lw_S q309 q310 q37 q311) rfl rfl rfl (by decide +kernel) (pc_rmle (by decide) (by decide))) (pc_preS X hw [] rfl rfl) rfl rfl hl.1 rfl (lv_room (Nat.le_of_ble_eq_true rfl)) dX1_known_25 ⟨Nat.le_refl _, Nat.le_refl _⟩) rfl rfl rfl rfl (fun E ce q9 ux_4 H locs hq hw h1 h2 h3 => ?_) (fun u hq => hq.elim) (fun u_3 H locs hq hw => ?_)
    · skip
      have hw : pc_S D A s.heap [] H locs := hw
      exact hout () h1 h2 h3 hq hw (Nat.le_refl _) (Nat.le_refl _)
    · skip
      have hw : pc_S D A s.heap [] H locs := hw
      exact hq.elim
  · skip
    refine lv_iload_n X.x X.b dX1_known_4 rfl (lv_at hl 0 rfl) ?_
    refine z_bipush X dX1_known_5 (by decide) ?_
    refine z_icmp_ge (tgt := 24) X dX1_known_7 (by decide) (by omega) (by omega) (fun c_5 => ?_) (fun c_5 => ?_)
    · skip
      refine z_iconst X dX1_known_24 ?_
      refine cx_v (c1 := 0) (s1 := 0) X hw [] [] (wr := []) (vx_runS (As := [.int (zI 0)]) (rest := []) X.fix (m_allow_f l hst D dA _) (va_cwS 1 X.t (lw_S q309 q310 q37 q311) rfl rfl rfl (by decide +kernel) (pc_rmle (by decide) (by decide))) (pc_preS X hw [] rfl rfl) rfl rfl hl.1 rfl (lv_room (Nat.le_of_ble_eq_true rfl)) dX1_known_25 ⟨Nat.le_refl _, Nat.le_refl _⟩) rfl rfl rfl rfl (fun E ce q9 ux_8 H locs hq hw h1 h2 h3 => ?_) (fun u hq => hq.elim) (fun u_7 H locs hq hw => ?_)
      · skip
        have hw : pc_S D A s.heap [] H locs := hw
        exact hout () h1 h2 h3 hq hw (Nat.le_refl _) (Nat.le_refl _)
      · skip
        have hw : pc_S D A s.heap [] H locs := hw
        exact hq.elim
    · skip
      refine lv_iload_n X.x X.b dX1_known_10 rfl (lv_at hl 1 rfl) ?_
      refine z_if_lt (tgt := 24) X dX1_known_11 (by decide) (by omega) (fun c_9 => ?_) (fun c_9 => ?_)
      · skip
        refine z_iconst X dX1_known_24 ?_
        refine cx_v (c1 := 0) (s1 := 0) X hw [] [] (wr := []) (vx_runS (As := [.int (zI 0)]) (rest := []) X.fix (m_allow_f l hst D dA _) (va_cwS 1 X.t (lw_S q309 q310 q37 q311) rfl rfl rfl (by decide +kernel) (pc_rmle (by decide) (by decide))) (pc_preS X hw [] rfl rfl) rfl rfl hl.1 rfl (lv_room (Nat.le_of_ble_eq_true rfl)) dX1_known_25 ⟨Nat.le_refl _, Nat.le_refl _⟩) rfl rfl rfl rfl (fun E ce q9 ux_12 H locs hq hw h1 h2 h3 => ?_) (fun u hq => hq.elim) (fun u_11 H locs hq hw => ?_)
        · skip
          have hw : pc_S D A s.heap [] H locs := hw
          exact hout () h1 h2 h3 hq hw (Nat.le_refl _) (Nat.le_refl _)
        · skip
          have hw : pc_S D A s.heap [] H locs := hw
          exact hq.elim
      · skip
        refine lv_iload_n X.x X.b dX1_known_14 rfl (lv_at hl 1 rfl) ?_
        refine z_bipush X dX1_known_15 (by decide) ?_
        refine z_icmp_ge (tgt := 24) X dX1_known_17 (by decide) (by omega) (by omega) (fun c_13 => ?_) (fun c_13 => ?_)
        · skip
          refine z_iconst X dX1_known_24 ?_
          refine cx_v (c1 := 0) (s1 := 0) X hw [] [] (wr := []) (vx_runS (As := [.int (zI 0)]) (rest := []) X.fix (m_allow_f l hst D dA _) (va_cwS 1 X.t (lw_S q309 q310 q37 q311) rfl rfl rfl (by decide +kernel) (pc_rmle (by decide) (by decide))) (pc_preS X hw [] rfl rfl) rfl rfl hl.1 rfl (lv_room (Nat.le_of_ble_eq_true rfl)) dX1_known_25 ⟨Nat.le_refl _, Nat.le_refl _⟩) rfl rfl rfl rfl (fun E ce q9 ux_16 H locs hq hw h1 h2 h3 => ?_) (fun u hq => hq.elim) (fun u_15 H locs hq hw => ?_)
          · skip
            have hw : pc_S D A s.heap [] H locs := hw
            exact hout () h1 h2 h3 hq hw (Nat.le_refl _) (Nat.le_refl _)
          · skip
            have hw : pc_S D A s.heap [] H locs := hw
            exact hq.elim
        · skip
          omega
set_option maxHeartbeats 4000000 in
/-- tryCode, code 0 -/
theorem m_tryCode_0 (l : Launch) (hst : l.stackTraces = false) (D : va_G) (dA : Nat → ClassId) (h0 aco ali acu a1 a2 apd asc fo wn bn : Nat) (hwb : wn ≤ 1000 ∧ bn ≤ 1000) (kf : Nat → Option Nat) (ca : Nat → Nat) (hkf : ∀ c, c < 6 → kf c = some (ca c)) (sb : Nat) (tm ta : Int32) (fs : Nat → Int32) (ap na ra : Nat) (xs : List Nat) (g : Nat → Int32) (hv : Valid xs) (hg : ArrIs xs g) (cz kd : Int32) (k : Nat) (hk : k ≤ 7) : pc_I l yX1_tryCode cX1_tryCode 4 .int (pc_rm 10 0 0) D dA [.ref h0, .ref ap, .int (zI (((0 : Nat) : Int))), .int (zI (((k : Nat) : Int)))] [(h0, .inr (9, [.ref aco, .ref ali, .ref acu, .ref a1, .ref a2, .ref apd, .ref asc, .ref fo, .int (zI (((wn : Nat) : Int))), .int (zI (((bn : Nat) : Int)))])), (aco, .inl (dA 5, 6, .inr (.inr (.inr (.inr kf))))), ((ca 0), .inr (1, [])), ((ca 1), .inr (2, [])), ((ca 2), .inr (3, [])), ((ca 3), .inr (4, [])), ((ca 4), .inr (5, [])), ((ca 5), .inr (6, [])), (asc, .inr (0, [.ref sb, .int (tm), .int (ta)])), (sb, .inl (dA 0, 400, .inl fs)), (ap, .inr (7, [.ref na, .ref ra, .int (zI (((xs.length : Nat) : Int))), .int (cz), .int (kd)])), (na, .inl (dA 1, 24, .inl g))] (fun r (f' : Nat → Int32) => r = zI (tryR 0 k xs) ∧ RowIs (enc 0 k xs) f') (fun f' => [(h0, .inr (9, [.ref aco, .ref ali, .ref acu, .ref a1, .ref a2, .ref apd, .ref asc, .ref fo, .int (zI (((wn : Nat) : Int))), .int (zI (((bn : Nat) : Int)))])), (aco, .inl (dA 5, 6, .inr (.inr (.inr (.inr kf))))), ((ca 0), .inr (1, [])), ((ca 1), .inr (2, [])), ((ca 2), .inr (3, [])), ((ca 3), .inr (4, [])), ((ca 4), .inr (5, [])), ((ca 5), .inr (6, [])), (asc, .inr (0, [.ref sb, .int (zI ((((enc 0 k xs).length : Nat) : Int))), .int (zI 0)])), (sb, .inl (dA 0, 400, .inl f')), (ap, .inr (7, [.ref na, .ref ra, .int (zI (((xs.length : Nat) : Int))), .int (cz), .int (kd)])), (na, .inl (dA 1, 24, .inl g))]) := by
  refine st_i hst (by decide) RX1 rfl (Nat.le_of_ble_eq_true rfl) ?_
  intro pg ev s mt args below meth cd R A Q hR X exit H locs hw ls hl
  subst hR
  have hl : lv_has ls 4 [(0, .ref h0), (1, .ref ap), (2, .int (zI (((0 : Nat) : Int)))), (3, .int (zI (((k : Nat) : Int))))] := hl
  have hel := enc_len (c := 0) hv hk
  have hv1 := hv.1
  refine lv_aload_n X.x X.b dX1_tryCode_0 rfl (lv_at hl 0 rfl) ?_
  refine z_get X hw in_X1 0 rfl rfl 6 (by decide) q188 rfl rfl dX1_tryCode_1 ?_
  refine cv_v (c1 := 0) (s1 := 0) X hw [8] [0, 1, 2, 3, 4, 5, 6, 7, 9, 10, 11] (wr := [(h0, .inr (9, [.ref aco, .ref ali, .ref acu, .ref a1, .ref a2, .ref apd, .ref asc, .ref fo, .int (zI (((wn : Nat) : Int))), .int (zI (((bn : Nat) : Int)))])), (aco, .inl (dA 5, 6, .inr (.inr (.inr (.inr kf))))), ((ca 0), .inr (1, [])), ((ca 1), .inr (2, [])), ((ca 2), .inr (3, [])), ((ca 3), .inr (4, [])), ((ca 4), .inr (5, [])), ((ca 5), .inr (6, [])), (sb, .inl (dA 0, 400, .inl fs)), (ap, .inr (7, [.ref na, .ref ra, .int (zI (((xs.length : Nat) : Int))), .int (cz), .int (kd)])), (na, .inl (dA 1, 24, .inl g))]) (va_runV (As := []) (rest := []) X.fix (m_Row_begin l hst D dA asc sb (tm) (ta) _) (cwV 0 X.t (lw_V q359 q360 q361 q46 q362) rfl rfl rfl (by decide +kernel) (pc_rmle (by decide) (by decide))) (pc_preV X hw [8] rfl rfl 0 8 rfl rfl rfl) rfl rfl hl.1 rfl (lv_room (Nat.le_of_ble_eq_true rfl)) dX1_tryCode_4 ⟨Nat.le_of_ble_eq_true rfl, Nat.le_of_ble_eq_true rfl⟩) rfl rfl rfl rfl (fun _ _ => pc_c00) (fun u_2 H locs hq hw => ?_)
  have hw : pc_S D A s.heap [(h0, .inr (9, [.ref aco, .ref ali, .ref acu, .ref a1, .ref a2, .ref apd, .ref asc, .ref fo, .int (zI (((wn : Nat) : Int))), .int (zI (((bn : Nat) : Int)))])), (aco, .inl (dA 5, 6, .inr (.inr (.inr (.inr kf))))), ((ca 0), .inr (1, [])), ((ca 1), .inr (2, [])), ((ca 2), .inr (3, [])), ((ca 3), .inr (4, [])), ((ca 4), .inr (5, [])), ((ca 5), .inr (6, [])), (sb, .inl (dA 0, 400, .inl fs)), (ap, .inr (7, [.ref na, .ref ra, .int (zI (((xs.length : Nat) : Int))), .int (cz), .int (kd)])), (na, .inl (dA 1, 24, .inl g)), (asc, .inr (0, [.ref sb, .int (zI 0), .int (zI 0)]))] H locs := hw
  refine lv_aload_n X.x X.b dX1_tryCode_7 rfl (lv_at hl 0 rfl) ?_
  refine z_get X hw in_X1 0 rfl rfl 0 (by decide) q182 rfl rfl dX1_tryCode_8 ?_
  refine lv_iload_n X.x X.b dX1_tryCode_11 rfl (lv_at hl 2 rfl) ?_
  refine z_aald X hw 1 5 0 rfl rfl (by decide) (by omega) (v := .ref (ca 0)) (congrArg va_rf (hkf 0 (by decide))) dX1_tryCode_12 ?_
  refine lv_aload_n X.x X.b dX1_tryCode_13 rfl (lv_at hl 0 rfl) ?_
  refine z_get X hw in_X1 0 rfl rfl 6 (by decide) q188 rfl rfl dX1_tryCode_14 ?_
  refine lv_aload_n X.x X.b dX1_tryCode_17 rfl (lv_at hl 1 rfl) ?_
  refine z_get X hw in_X11 9 rfl rfl 0 (by decide) q161 rfl rfl dX1_tryCode_18 ?_
  refine lv_aload_n X.x X.b dX1_tryCode_21 rfl (lv_at hl 1 rfl) ?_
  refine z_get X hw in_X11 9 rfl rfl 2 (by decide) q166 rfl rfl dX1_tryCode_22 ?_
  refine lv_iload_n X.x X.b dX1_tryCode_25 rfl (lv_at hl 3 rfl) ?_
  refine cv_v5 (c1 := 0) (s1 := 0) X hw [2, 11, 8, 10] [0, 1, 3, 4, 5, 6, 7, 9] (wr := [(h0, .inr (9, [.ref aco, .ref ali, .ref acu, .ref a1, .ref a2, .ref apd, .ref asc, .ref fo, .int (zI (((wn : Nat) : Int))), .int (zI (((bn : Nat) : Int)))])), (aco, .inl (dA 5, 6, .inr (.inr (.inr (.inr kf))))), ((ca 1), .inr (2, [])), ((ca 2), .inr (3, [])), ((ca 3), .inr (4, [])), ((ca 4), .inr (5, [])), ((ca 5), .inr (6, [])), (ap, .inr (7, [.ref na, .ref ra, .int (zI (((xs.length : Nat) : Int))), .int (cz), .int (kd)]))]) (va_runF (As := [.ref asc, .ref na, .int (zI (((xs.length : Nat) : Int))), .int (zI (((k : Nat) : Int)))]) (rest := []) (pc_at X 1 rfl) X.fix (m_enc_0 l hst D dA (ca 0) asc sb na (zI 0) xs k fs g hv hg hk _) (va_cwF (x := (mn_ "PostingCodes$Code" "encode" "(LPostingCodes$Row;[SII)V")) (C := RX3) 4 X.t (lw_F q364 q368 q370 q38 q372) rfl rfl rfl (pc_nf X.N 0 rfl) (by decide +kernel) (pc_rmle (by decide) (by decide))) (pc_preV X hw [2, 11, 8, 10] rfl rfl 1 2 rfl rfl rfl) rfl rfl hl.1 rfl (lv_room (Nat.le_of_ble_eq_true rfl)) dX1_tryCode_26 ⟨Nat.le_of_ble_eq_true rfl, Nat.le_of_ble_eq_true rfl⟩) rfl rfl rfl rfl (fun _ _ => pc_c00) (fun u_4 H locs hq hw => ?_)
  have hw : pc_S D A s.heap [(h0, .inr (9, [.ref aco, .ref ali, .ref acu, .ref a1, .ref a2, .ref apd, .ref asc, .ref fo, .int (zI (((wn : Nat) : Int))), .int (zI (((bn : Nat) : Int)))])), (aco, .inl (dA 5, 6, .inr (.inr (.inr (.inr kf))))), ((ca 1), .inr (2, [])), ((ca 2), .inr (3, [])), ((ca 3), .inr (4, [])), ((ca 4), .inr (5, [])), ((ca 5), .inr (6, [])), (ap, .inr (7, [.ref na, .ref ra, .int (zI (((xs.length : Nat) : Int))), .int (cz), .int (kd)])), ((ca 0), .inr (1, [])), (asc, .inr (0, [.ref sb, .int (zI ((((enc 0 k xs).length : Nat) : Int))), .int (zI 0)])), (sb, .inl (dA 0, 400, .inl u_4)), (na, .inl (dA 1, 24, .inl g))] H locs := hw
  have he_0 : RowIs (enc 0 k xs) u_4 := hq
  refine lv_aload_n X.x X.b dX1_tryCode_31 rfl (lv_at hl 0 rfl) ?_
  refine z_get X hw in_X1 0 rfl rfl 6 (by decide) q188 rfl rfl dX1_tryCode_32 ?_
  refine cv_i (c1 := 0) (s1 := 0) X hw [9] [0, 1, 2, 3, 4, 5, 6, 7, 8, 10, 11] (wr := [(h0, .inr (9, [.ref aco, .ref ali, .ref acu, .ref a1, .ref a2, .ref apd, .ref asc, .ref fo, .int (zI (((wn : Nat) : Int))), .int (zI (((bn : Nat) : Int)))])), (aco, .inl (dA 5, 6, .inr (.inr (.inr (.inr kf))))), ((ca 1), .inr (2, [])), ((ca 2), .inr (3, [])), ((ca 3), .inr (4, [])), ((ca 4), .inr (5, [])), ((ca 5), .inr (6, [])), (ap, .inr (7, [.ref na, .ref ra, .int (zI (((xs.length : Nat) : Int))), .int (cz), .int (kd)])), ((ca 0), .inr (1, [])), (sb, .inl (dA 0, 400, .inl u_4)), (na, .inl (dA 1, 24, .inl g))]) (va_runV (As := []) (rest := []) X.fix (m_Row_fits l hst D dA asc sb ((enc 0 k xs).length) (zI 0) (by omega) _) (cwV 0 X.t (lw_V q437 q438 q439 q46 q440) rfl rfl rfl (by decide +kernel) (pc_rmle (by decide) (by decide))) (pc_preV X hw [9] rfl rfl 0 9 rfl rfl rfl) rfl rfl hl.1 rfl (lv_room (Nat.le_of_ble_eq_true rfl)) dX1_tryCode_35 ⟨Nat.le_of_ble_eq_true rfl, Nat.le_of_ble_eq_true rfl⟩) rfl rfl rfl rfl (fun _ _ _ => pc_c00) (fun r_5 u_6 H locs hq hw => ?_)
  have hw : pc_S D A s.heap [(h0, .inr (9, [.ref aco, .ref ali, .ref acu, .ref a1, .ref a2, .ref apd, .ref asc, .ref fo, .int (zI (((wn : Nat) : Int))), .int (zI (((bn : Nat) : Int)))])), (aco, .inl (dA 5, 6, .inr (.inr (.inr (.inr kf))))), ((ca 1), .inr (2, [])), ((ca 2), .inr (3, [])), ((ca 3), .inr (4, [])), ((ca 4), .inr (5, [])), ((ca 5), .inr (6, [])), (ap, .inr (7, [.ref na, .ref ra, .int (zI (((xs.length : Nat) : Int))), .int (cz), .int (kd)])), ((ca 0), .inr (1, [])), (sb, .inl (dA 0, 400, .inl u_4)), (na, .inl (dA 1, 24, .inl g)), (asc, .inr (0, [.ref sb, .int (zI ((((enc 0 k xs).length : Nat) : Int))), .int (zI 0)]))] H locs := hw
  subst hq
  have hb8 := b2n_le (decide ((enc 0 k xs).length ≤ 400))
  have hb9 := b2n_dec0 (P := (enc 0 k xs).length ≤ 400)
  refine z_if_eq (tgt := 51) X dX1_tryCode_38 (by decide) (by omega) (fun c_7 => ?_) (fun c_7 => ?_)
  · skip
    refine z_iconst X dX1_tryCode_51 ?_
    have hw : pc_S D A s.heap [(h0, .inr (9, [.ref aco, .ref ali, .ref acu, .ref a1, .ref a2, .ref apd, .ref asc, .ref fo, .int (zI (((wn : Nat) : Int))), .int (zI (((bn : Nat) : Int)))])), (aco, .inl (dA 5, 6, .inr (.inr (.inr (.inr kf))))), ((ca 0), .inr (1, [])), ((ca 1), .inr (2, [])), ((ca 2), .inr (3, [])), ((ca 3), .inr (4, [])), ((ca 4), .inr (5, [])), ((ca 5), .inr (6, [])), (asc, .inr (0, [.ref sb, .int (zI ((((enc 0 k xs).length : Nat) : Int))), .int (zI 0)])), (sb, .inl (dA 0, 400, .inl u_4)), (ap, .inr (7, [.ref na, .ref ra, .int (zI (((xs.length : Nat) : Int))), .int (cz), .int (kd)])), (na, .inl (dA 1, 24, .inl g))] H locs := hw.sub [0, 1, 8, 2, 3, 4, 5, 6, 11, 9, 7, 10] rfl rfl
    exact exit u_4 dX1_tryCode_52 rfl ⟨by unfold tryR; rw [if_neg (by omega)], he_0⟩ hw (Nat.zero_le _) (Nat.zero_le _)
  · skip
    refine lv_aload_n X.x X.b dX1_tryCode_41 rfl (lv_at hl 0 rfl) ?_
    refine z_get X hw in_X1 0 rfl rfl 6 (by decide) q188 rfl rfl dX1_tryCode_42 ?_
    refine z_get X hw in_X10 11 rfl rfl 1 (by decide) q142 rfl rfl dX1_tryCode_45 ?_
    refine lv_goto (tgt := 52) X.x X.b dX1_tryCode_48 (by decide) ?_
    have hw : pc_S D A s.heap [(h0, .inr (9, [.ref aco, .ref ali, .ref acu, .ref a1, .ref a2, .ref apd, .ref asc, .ref fo, .int (zI (((wn : Nat) : Int))), .int (zI (((bn : Nat) : Int)))])), (aco, .inl (dA 5, 6, .inr (.inr (.inr (.inr kf))))), ((ca 0), .inr (1, [])), ((ca 1), .inr (2, [])), ((ca 2), .inr (3, [])), ((ca 3), .inr (4, [])), ((ca 4), .inr (5, [])), ((ca 5), .inr (6, [])), (asc, .inr (0, [.ref sb, .int (zI ((((enc 0 k xs).length : Nat) : Int))), .int (zI 0)])), (sb, .inl (dA 0, 400, .inl u_4)), (ap, .inr (7, [.ref na, .ref ra, .int (zI (((xs.length : Nat) : Int))), .int (cz), .int (kd)])), (na, .inl (dA 1, 24, .inl g))] H locs := hw.sub [0, 1, 8, 2, 3, 4, 5, 6, 11, 9, 7, 10] rfl rfl
    exact exit u_4 dX1_tryCode_52 rfl ⟨by unfold tryR; rw [if_pos (by omega)], he_0⟩ hw (Nat.zero_le _) (Nat.zero_le _)
set_option maxHeartbeats 4000000 in
/-- tryCode, code 1 -/
theorem m_tryCode_1 (l : Launch) (hst : l.stackTraces = false) (D : va_G) (dA : Nat → ClassId) (h0 aco ali acu a1 a2 apd asc fo wn bn : Nat) (hwb : wn ≤ 1000 ∧ bn ≤ 1000) (kf : Nat → Option Nat) (ca : Nat → Nat) (hkf : ∀ c, c < 6 → kf c = some (ca c)) (sb : Nat) (tm ta : Int32) (fs : Nat → Int32) (ap na ra : Nat) (xs : List Nat) (g : Nat → Int32) (hv : Valid xs) (hg : ArrIs xs g) (cz kd : Int32) (k : Nat) (hk : k ≤ 7) : pc_I l yX1_tryCode cX1_tryCode 4 .int (pc_rm 10 0 0) D dA [.ref h0, .ref ap, .int (zI (((1 : Nat) : Int))), .int (zI (((k : Nat) : Int)))] [(h0, .inr (9, [.ref aco, .ref ali, .ref acu, .ref a1, .ref a2, .ref apd, .ref asc, .ref fo, .int (zI (((wn : Nat) : Int))), .int (zI (((bn : Nat) : Int)))])), (aco, .inl (dA 5, 6, .inr (.inr (.inr (.inr kf))))), ((ca 0), .inr (1, [])), ((ca 1), .inr (2, [])), ((ca 2), .inr (3, [])), ((ca 3), .inr (4, [])), ((ca 4), .inr (5, [])), ((ca 5), .inr (6, [])), (asc, .inr (0, [.ref sb, .int (tm), .int (ta)])), (sb, .inl (dA 0, 400, .inl fs)), (ap, .inr (7, [.ref na, .ref ra, .int (zI (((xs.length : Nat) : Int))), .int (cz), .int (kd)])), (na, .inl (dA 1, 24, .inl g))] (fun r (f' : Nat → Int32) => r = zI (tryR 1 k xs) ∧ RowIs (enc 1 k xs) f') (fun f' => [(h0, .inr (9, [.ref aco, .ref ali, .ref acu, .ref a1, .ref a2, .ref apd, .ref asc, .ref fo, .int (zI (((wn : Nat) : Int))), .int (zI (((bn : Nat) : Int)))])), (aco, .inl (dA 5, 6, .inr (.inr (.inr (.inr kf))))), ((ca 0), .inr (1, [])), ((ca 1), .inr (2, [])), ((ca 2), .inr (3, [])), ((ca 3), .inr (4, [])), ((ca 4), .inr (5, [])), ((ca 5), .inr (6, [])), (asc, .inr (0, [.ref sb, .int (zI ((((enc 1 k xs).length : Nat) : Int))), .int (zI 0)])), (sb, .inl (dA 0, 400, .inl f')), (ap, .inr (7, [.ref na, .ref ra, .int (zI (((xs.length : Nat) : Int))), .int (cz), .int (kd)])), (na, .inl (dA 1, 24, .inl g))]) := by
  refine st_i hst (by decide) RX1 rfl (Nat.le_of_ble_eq_true rfl) ?_
  intro pg ev s mt args below meth cd R A Q hR X exit H locs hw ls hl
  subst hR
  have hl : lv_has ls 4 [(0, .ref h0), (1, .ref ap), (2, .int (zI (((1 : Nat) : Int)))), (3, .int (zI (((k : Nat) : Int))))] := hl
  have hel := enc_len (c := 1) hv hk
  have hv1 := hv.1
  refine lv_aload_n X.x X.b dX1_tryCode_0 rfl (lv_at hl 0 rfl) ?_
  refine z_get X hw in_X1 0 rfl rfl 6 (by decide) q188 rfl rfl dX1_tryCode_1 ?_
  refine cv_v (c1 := 0) (s1 := 0) X hw [8] [0, 1, 2, 3, 4, 5, 6, 7, 9, 10, 11] (wr := [(h0, .inr (9, [.ref aco, .ref ali, .ref acu, .ref a1, .ref a2, .ref apd, .ref asc, .ref fo, .int (zI (((wn : Nat) : Int))), .int (zI (((bn : Nat) : Int)))])), (aco, .inl (dA 5, 6, .inr (.inr (.inr (.inr kf))))), ((ca 0), .inr (1, [])), ((ca 1), .inr (2, [])), ((ca 2), .inr (3, [])), ((ca 3), .inr (4, [])), ((ca 4), .inr (5, [])), ((ca 5), .inr (6, [])), (sb, .inl (dA 0, 400, .inl fs)), (ap, .inr (7, [.ref na, .ref ra, .int (zI (((xs.length : Nat) : Int))), .int (cz), .int (kd)])), (na, .inl (dA 1, 24, .inl g))]) (va_runV (As := []) (rest := []) X.fix (m_Row_begin l hst D dA asc sb (tm) (ta) _) (cwV 0 X.t (lw_V q359 q360 q361 q46 q362) rfl rfl rfl (by decide +kernel) (pc_rmle (by decide) (by decide))) (pc_preV X hw [8] rfl rfl 0 8 rfl rfl rfl) rfl rfl hl.1 rfl (lv_room (Nat.le_of_ble_eq_true rfl)) dX1_tryCode_4 ⟨Nat.le_of_ble_eq_true rfl, Nat.le_of_ble_eq_true rfl⟩) rfl rfl rfl rfl (fun _ _ => pc_c00) (fun u_2 H locs hq hw => ?_)
  have hw : pc_S D A s.heap [(h0, .inr (9, [.ref aco, .ref ali, .ref acu, .ref a1, .ref a2, .ref apd, .ref asc, .ref fo, .int (zI (((wn : Nat) : Int))), .int (zI (((bn : Nat) : Int)))])), (aco, .inl (dA 5, 6, .inr (.inr (.inr (.inr kf))))), ((ca 0), .inr (1, [])), ((ca 1), .inr (2, [])), ((ca 2), .inr (3, [])), ((ca 3), .inr (4, [])), ((ca 4), .inr (5, [])), ((ca 5), .inr (6, [])), (sb, .inl (dA 0, 400, .inl fs)), (ap, .inr (7, [.ref na, .ref ra, .int (zI (((xs.length : Nat) : Int))), .int (cz), .int (kd)])), (na, .inl (dA 1, 24, .inl g)), (asc, .inr (0, [.ref sb, .int (zI 0), .int (zI 0)]))] H locs := hw
  refine lv_aload_n X.x X.b dX1_tryCode_7 rfl (lv_at hl 0 rfl) ?_
  refine z_get X hw in_X1 0 rfl rfl 0 (by decide) q182 rfl rfl dX1_tryCode_8 ?_
  refine lv_iload_n X.x X.b dX1_tryCode_11 rfl (lv_at hl 2 rfl) ?_
  refine z_aald X hw 1 5 1 rfl rfl (by decide) (by omega) (v := .ref (ca 1)) (congrArg va_rf (hkf 1 (by decide))) dX1_tryCode_12 ?_
  refine lv_aload_n X.x X.b dX1_tryCode_13 rfl (lv_at hl 0 rfl) ?_
  refine z_get X hw in_X1 0 rfl rfl 6 (by decide) q188 rfl rfl dX1_tryCode_14 ?_
  refine lv_aload_n X.x X.b dX1_tryCode_17 rfl (lv_at hl 1 rfl) ?_
  refine z_get X hw in_X11 9 rfl rfl 0 (by decide) q161 rfl rfl dX1_tryCode_18 ?_
  refine lv_aload_n X.x X.b dX1_tryCode_21 rfl (lv_at hl 1 rfl) ?_
  refine z_get X hw in_X11 9 rfl rfl 2 (by decide) q166 rfl rfl dX1_tryCode_22 ?_
  refine lv_iload_n X.x X.b dX1_tryCode_25 rfl (lv_at hl 3 rfl) ?_
  refine cv_v5 (c1 := 0) (s1 := 0) X hw [3, 11, 8, 10] [0, 1, 2, 4, 5, 6, 7, 9] (wr := [(h0, .inr (9, [.ref aco, .ref ali, .ref acu, .ref a1, .ref a2, .ref apd, .ref asc, .ref fo, .int (zI (((wn : Nat) : Int))), .int (zI (((bn : Nat) : Int)))])), (aco, .inl (dA 5, 6, .inr (.inr (.inr (.inr kf))))), ((ca 0), .inr (1, [])), ((ca 2), .inr (3, [])), ((ca 3), .inr (4, [])), ((ca 4), .inr (5, [])), ((ca 5), .inr (6, [])), (ap, .inr (7, [.ref na, .ref ra, .int (zI (((xs.length : Nat) : Int))), .int (cz), .int (kd)]))]) (va_runF (As := [.ref asc, .ref na, .int (zI (((xs.length : Nat) : Int))), .int (zI (((k : Nat) : Int)))]) (rest := []) (pc_at X 2 rfl) X.fix (m_enc_1 l hst D dA (ca 1) asc sb na (zI 0) xs k fs g hv hg hk _) (va_cwF (x := (mn_ "PostingCodes$Code" "encode" "(LPostingCodes$Row;[SII)V")) (C := RX4) 4 X.t (lw_F q364 q406 q370 q38 q372) rfl rfl rfl (pc_nf X.N 1 rfl) (by decide +kernel) (pc_rmle (by decide) (by decide))) (pc_preV X hw [3, 11, 8, 10] rfl rfl 2 3 rfl rfl rfl) rfl rfl hl.1 rfl (lv_room (Nat.le_of_ble_eq_true rfl)) dX1_tryCode_26 ⟨Nat.le_of_ble_eq_true rfl, Nat.le_of_ble_eq_true rfl⟩) rfl rfl rfl rfl (fun _ _ => pc_c00) (fun u_4 H locs hq hw => ?_)
  have hw : pc_S D A s.heap [(h0, .inr (9, [.ref aco, .ref ali, .ref acu, .ref a1, .ref a2, .ref apd, .ref asc, .ref fo, .int (zI (((wn : Nat) : Int))), .int (zI (((bn : Nat) : Int)))])), (aco, .inl (dA 5, 6, .inr (.inr (.inr (.inr kf))))), ((ca 0), .inr (1, [])), ((ca 2), .inr (3, [])), ((ca 3), .inr (4, [])), ((ca 4), .inr (5, [])), ((ca 5), .inr (6, [])), (ap, .inr (7, [.ref na, .ref ra, .int (zI (((xs.length : Nat) : Int))), .int (cz), .int (kd)])), ((ca 1), .inr (2, [])), (asc, .inr (0, [.ref sb, .int (zI ((((enc 1 k xs).length : Nat) : Int))), .int (zI 0)])), (sb, .inl (dA 0, 400, .inl u_4)), (na, .inl (dA 1, 24, .inl g))] H locs := hw
  have he_1 : RowIs (enc 1 k xs) u_4 := hq
  refine lv_aload_n X.x X.b dX1_tryCode_31 rfl (lv_at hl 0 rfl) ?_
  refine z_get X hw in_X1 0 rfl rfl 6 (by decide) q188 rfl rfl dX1_tryCode_32 ?_
  refine cv_i (c1 := 0) (s1 := 0) X hw [9] [0, 1, 2, 3, 4, 5, 6, 7, 8, 10, 11] (wr := [(h0, .inr (9, [.ref aco, .ref ali, .ref acu, .ref a1, .ref a2, .ref apd, .ref asc, .ref fo, .int (zI (((wn : Nat) : Int))), .int (zI (((bn : Nat) : Int)))])), (aco, .inl (dA 5, 6, .inr (.inr (.inr (.inr kf))))), ((ca 0), .inr (1, [])), ((ca 2), .inr (3, [])), ((ca 3), .inr (4, [])), ((ca 4), .inr (5, [])), ((ca 5), .inr (6, [])), (ap, .inr (7, [.ref na, .ref ra, .int (zI (((xs.length : Nat) : Int))), .int (cz), .int (kd)])), ((ca 1), .inr (2, [])), (sb, .inl (dA 0, 400, .inl u_4)), (na, .inl (dA 1, 24, .inl g))]) (va_runV (As := []) (rest := []) X.fix (m_Row_fits l hst D dA asc sb ((enc 1 k xs).length) (zI 0) (by omega) _) (cwV 0 X.t (lw_V q437 q438 q439 q46 q440) rfl rfl rfl (by decide +kernel) (pc_rmle (by decide) (by decide))) (pc_preV X hw [9] rfl rfl 0 9 rfl rfl rfl) rfl rfl hl.1 rfl (lv_room (Nat.le_of_ble_eq_true rfl)) dX1_tryCode_35 ⟨Nat.le_of_ble_eq_true rfl, Nat.le_of_ble_eq_true rfl⟩) rfl rfl rfl rfl (fun _ _ _ => pc_c00) (fun r_5 u_6 H locs hq hw => ?_)
  have hw : pc_S D A s.heap [(h0, .inr (9, [.ref aco, .ref ali, .ref acu, .ref a1, .ref a2, .ref apd, .ref asc, .ref fo, .int (zI (((wn : Nat) : Int))), .int (zI (((bn : Nat) : Int)))])), (aco, .inl (dA 5, 6, .inr (.inr (.inr (.inr kf))))), ((ca 0), .inr (1, [])), ((ca 2), .inr (3, [])), ((ca 3), .inr (4, [])), ((ca 4), .inr (5, [])), ((ca 5), .inr (6, [])), (ap, .inr (7, [.ref na, .ref ra, .int (zI (((xs.length : Nat) : Int))), .int (cz), .int (kd)])), ((ca 1), .inr (2, [])), (sb, .inl (dA 0, 400, .inl u_4)), (na, .inl (dA 1, 24, .inl g)), (asc, .inr (0, [.ref sb, .int (zI ((((enc 1 k xs).length : Nat) : Int))), .int (zI 0)]))] H locs := hw
  subst hq
  have hb8 := b2n_le (decide ((enc 1 k xs).length ≤ 400))
  have hb9 := b2n_dec0 (P := (enc 1 k xs).length ≤ 400)
  refine z_if_eq (tgt := 51) X dX1_tryCode_38 (by decide) (by omega) (fun c_7 => ?_) (fun c_7 => ?_)
  · skip
    refine z_iconst X dX1_tryCode_51 ?_
    have hw : pc_S D A s.heap [(h0, .inr (9, [.ref aco, .ref ali, .ref acu, .ref a1, .ref a2, .ref apd, .ref asc, .ref fo, .int (zI (((wn : Nat) : Int))), .int (zI (((bn : Nat) : Int)))])), (aco, .inl (dA 5, 6, .inr (.inr (.inr (.inr kf))))), ((ca 0), .inr (1, [])), ((ca 1), .inr (2, [])), ((ca 2), .inr (3, [])), ((ca 3), .inr (4, [])), ((ca 4), .inr (5, [])), ((ca 5), .inr (6, [])), (asc, .inr (0, [.ref sb, .int (zI ((((enc 1 k xs).length : Nat) : Int))), .int (zI 0)])), (sb, .inl (dA 0, 400, .inl u_4)), (ap, .inr (7, [.ref na, .ref ra, .int (zI (((xs.length : Nat) : Int))), .int (cz), .int (kd)])), (na, .inl (dA 1, 24, .inl g))] H locs := hw.sub [0, 1, 2, 8, 3, 4, 5, 6, 11, 9, 7, 10] rfl rfl
    exact exit u_4 dX1_tryCode_52 rfl ⟨by unfold tryR; rw [if_neg (by omega)], he_1⟩ hw (Nat.zero_le _) (Nat.zero_le _)
  · skip
    refine lv_aload_n X.x X.b dX1_tryCode_41 rfl (lv_at hl 0 rfl) ?_
    refine z_get X hw in_X1 0 rfl rfl 6 (by decide) q188 rfl rfl dX1_tryCode_42 ?_
    refine z_get X hw in_X10 11 rfl rfl 1 (by decide) q142 rfl rfl dX1_tryCode_45 ?_
    refine lv_goto (tgt := 52) X.x X.b dX1_tryCode_48 (by decide) ?_
    have hw : pc_S D A s.heap [(h0, .inr (9, [.ref aco, .ref ali, .ref acu, .ref a1, .ref a2, .ref apd, .ref asc, .ref fo, .int (zI (((wn : Nat) : Int))), .int (zI (((bn : Nat) : Int)))])), (aco, .inl (dA 5, 6, .inr (.inr (.inr (.inr kf))))), ((ca 0), .inr (1, [])), ((ca 1), .inr (2, [])), ((ca 2), .inr (3, [])), ((ca 3), .inr (4, [])), ((ca 4), .inr (5, [])), ((ca 5), .inr (6, [])), (asc, .inr (0, [.ref sb, .int (zI ((((enc 1 k xs).length : Nat) : Int))), .int (zI 0)])), (sb, .inl (dA 0, 400, .inl u_4)), (ap, .inr (7, [.ref na, .ref ra, .int (zI (((xs.length : Nat) : Int))), .int (cz), .int (kd)])), (na, .inl (dA 1, 24, .inl g))] H locs := hw.sub [0, 1, 2, 8, 3, 4, 5, 6, 11, 9, 7, 10] rfl rfl
    exact exit u_4 dX1_tryCode_52 rfl ⟨by unfold tryR; rw [if_pos (by omega)], he_1⟩ hw (Nat.zero_le _) (Nat.zero_le _)
set_option maxHeartbeats 4000000 in
/-- tryCode, code 2 -/
theorem m_tryCode_2 (l : Launch) (hst : l.stackTraces = false) (D : va_G) (dA : Nat → ClassId) (h0 aco ali acu a1 a2 apd asc fo wn bn : Nat) (hwb : wn ≤ 1000 ∧ bn ≤ 1000) (kf : Nat → Option Nat) (ca : Nat → Nat) (hkf : ∀ c, c < 6 → kf c = some (ca c)) (sb : Nat) (tm ta : Int32) (fs : Nat → Int32) (ap na ra : Nat) (xs : List Nat) (g : Nat → Int32) (hv : Valid xs) (hg : ArrIs xs g) (cz kd : Int32) (k : Nat) (hk : k ≤ 7) : pc_I l yX1_tryCode cX1_tryCode 4 .int (pc_rm 10 0 0) D dA [.ref h0, .ref ap, .int (zI (((2 : Nat) : Int))), .int (zI (((k : Nat) : Int)))] [(h0, .inr (9, [.ref aco, .ref ali, .ref acu, .ref a1, .ref a2, .ref apd, .ref asc, .ref fo, .int (zI (((wn : Nat) : Int))), .int (zI (((bn : Nat) : Int)))])), (aco, .inl (dA 5, 6, .inr (.inr (.inr (.inr kf))))), ((ca 0), .inr (1, [])), ((ca 1), .inr (2, [])), ((ca 2), .inr (3, [])), ((ca 3), .inr (4, [])), ((ca 4), .inr (5, [])), ((ca 5), .inr (6, [])), (asc, .inr (0, [.ref sb, .int (tm), .int (ta)])), (sb, .inl (dA 0, 400, .inl fs)), (ap, .inr (7, [.ref na, .ref ra, .int (zI (((xs.length : Nat) : Int))), .int (cz), .int (kd)])), (na, .inl (dA 1, 24, .inl g))] (fun r (f' : Nat → Int32) => r = zI (tryR 2 k xs) ∧ RowIs (enc 2 k xs) f') (fun f' => [(h0, .inr (9, [.ref aco, .ref ali, .ref acu, .ref a1, .ref a2, .ref apd, .ref asc, .ref fo, .int (zI (((wn : Nat) : Int))), .int (zI (((bn : Nat) : Int)))])), (aco, .inl (dA 5, 6, .inr (.inr (.inr (.inr kf))))), ((ca 0), .inr (1, [])), ((ca 1), .inr (2, [])), ((ca 2), .inr (3, [])), ((ca 3), .inr (4, [])), ((ca 4), .inr (5, [])), ((ca 5), .inr (6, [])), (asc, .inr (0, [.ref sb, .int (zI ((((enc 2 k xs).length : Nat) : Int))), .int (zI 0)])), (sb, .inl (dA 0, 400, .inl f')), (ap, .inr (7, [.ref na, .ref ra, .int (zI (((xs.length : Nat) : Int))), .int (cz), .int (kd)])), (na, .inl (dA 1, 24, .inl g))]) := by
  refine st_i hst (by decide) RX1 rfl (Nat.le_of_ble_eq_true rfl) ?_
  intro pg ev s mt args below meth cd R A Q hR X exit H locs hw ls hl
  subst hR
  have hl : lv_has ls 4 [(0, .ref h0), (1, .ref ap), (2, .int (zI (((2 : Nat) : Int)))), (3, .int (zI (((k : Nat) : Int))))] := hl
  have hel := enc_len (c := 2) hv hk
  have hv1 := hv.1
  refine lv_aload_n X.x X.b dX1_tryCode_0 rfl (lv_at hl 0 rfl) ?_
  refine z_get X hw in_X1 0 rfl rfl 6 (by decide) q188 rfl rfl dX1_tryCode_1 ?_
  refine cv_v (c1 := 0) (s1 := 0) X hw [8] [0, 1, 2, 3, 4, 5, 6, 7, 9, 10, 11] (wr := [(h0, .inr (9, [.ref aco, .ref ali, .ref acu, .ref a1, .ref a2, .ref apd, .ref asc, .ref fo, .int (zI (((wn : Nat) : Int))), .int (zI (((bn : Nat) : Int)))])), (aco, .inl (dA 5, 6, .inr (.inr (.inr (.inr kf))))), ((ca 0), .inr (1, [])), ((ca 1), .inr (2, [])), ((ca 2), .inr (3, [])), ((ca 3), .inr (4, [])), ((ca 4), .inr (5, [])), ((ca 5), .inr (6, [])), (sb, .inl (dA 0, 400, .inl fs)), (ap, .inr (7, [.ref na, .ref ra, .int (zI (((xs.length : Nat) : Int))), .int (cz), .int (kd)])), (na, .inl (dA 1, 24, .inl g))]) (va_runV (As := []) (rest := []) X.fix (m_Row_begin l hst D dA asc sb (tm) (ta) _) (cwV 0 X.t (lw_V q359 q360 q361 q46 q362) rfl rfl rfl (by decide +kernel) (pc_rmle (by decide) (by decide))) (pc_preV X hw [8] rfl rfl 0 8 rfl rfl rfl) rfl rfl hl.1 rfl (lv_room (Nat.le_of_ble_eq_true rfl)) dX1_tryCode_4 ⟨Nat.le_of_ble_eq_true rfl, Nat.le_of_ble_eq_true rfl⟩) rfl rfl rfl rfl (fun _ _ => pc_c00) (fun u_2 H locs hq hw => ?_)
  have hw : pc_S D A s.heap [(h0, .inr (9, [.ref aco, .ref ali, .ref acu, .ref a1, .ref a2, .ref apd, .ref asc, .ref fo, .int (zI (((wn : Nat) : Int))), .int (zI (((bn : Nat) : Int)))])), (aco, .inl (dA 5, 6, .inr (.inr (.inr (.inr kf))))), ((ca 0), .inr (1, [])), ((ca 1), .inr (2, [])), ((ca 2), .inr (3, [])), ((ca 3), .inr (4, [])), ((ca 4), .inr (5, [])), ((ca 5), .inr (6, [])), (sb, .inl (dA 0, 400, .inl fs)), (ap, .inr (7, [.ref na, .ref ra, .int (zI (((xs.length : Nat) : Int))), .int (cz), .int (kd)])), (na, .inl (dA 1, 24, .inl g)), (asc, .inr (0, [.ref sb, .int (zI 0), .int (zI 0)]))] H locs := hw
  refine lv_aload_n X.x X.b dX1_tryCode_7 rfl (lv_at hl 0 rfl) ?_
  refine z_get X hw in_X1 0 rfl rfl 0 (by decide) q182 rfl rfl dX1_tryCode_8 ?_
  refine lv_iload_n X.x X.b dX1_tryCode_11 rfl (lv_at hl 2 rfl) ?_
  refine z_aald X hw 1 5 2 rfl rfl (by decide) (by omega) (v := .ref (ca 2)) (congrArg va_rf (hkf 2 (by decide))) dX1_tryCode_12 ?_
  refine lv_aload_n X.x X.b dX1_tryCode_13 rfl (lv_at hl 0 rfl) ?_
  refine z_get X hw in_X1 0 rfl rfl 6 (by decide) q188 rfl rfl dX1_tryCode_14 ?_
  refine lv_aload_n X.x X.b dX1_tryCode_17 rfl (lv_at hl 1 rfl) ?_
  refine z_get X hw in_X11 9 rfl rfl 0 (by decide) q161 rfl rfl dX1_tryCode_18 ?_
  refine lv_aload_n X.x X.b dX1_tryCode_21 rfl (lv_at hl 1 rfl) ?_
  refine z_get X hw in_X11 9 rfl rfl 2 (by decide) q166 rfl rfl dX1_tryCode_22 ?_
  refine lv_iload_n X.x X.b dX1_tryCode_25 rfl (lv_at hl 3 rfl) ?_
  refine cv_v5 (c1 := 0) (s1 := 0) X hw [4, 11, 8, 10] [0, 1, 2, 3, 5, 6, 7, 9] (wr := [(h0, .inr (9, [.ref aco, .ref ali, .ref acu, .ref a1, .ref a2, .ref apd, .ref asc, .ref fo, .int (zI (((wn : Nat) : Int))), .int (zI (((bn : Nat) : Int)))])), (aco, .inl (dA 5, 6, .inr (.inr (.inr (.inr kf))))), ((ca 0), .inr (1, [])), ((ca 1), .inr (2, [])), ((ca 3), .inr (4, [])), ((ca 4), .inr (5, [])), ((ca 5), .inr (6, [])), (ap, .inr (7, [.ref na, .ref ra, .int (zI (((xs.length : Nat) : Int))), .int (cz), .int (kd)]))]) (va_runF (As := [.ref asc, .ref na, .int (zI (((xs.length : Nat) : Int))), .int (zI (((k : Nat) : Int)))]) (rest := []) (pc_at X 3 rfl) X.fix (m_enc_2 l hst D dA (ca 2) asc sb na (zI 0) xs k fs g hv hg hk _) (va_cwF (x := (mn_ "PostingCodes$Code" "encode" "(LPostingCodes$Row;[SII)V")) (C := RX5) 4 X.t (lw_F q364 q425 q370 q38 q372) rfl rfl rfl (pc_nf X.N 2 rfl) (by decide +kernel) (pc_rmle (by decide) (by decide))) (pc_preV X hw [4, 11, 8, 10] rfl rfl 3 4 rfl rfl rfl) rfl rfl hl.1 rfl (lv_room (Nat.le_of_ble_eq_true rfl)) dX1_tryCode_26 ⟨Nat.le_of_ble_eq_true rfl, Nat.le_of_ble_eq_true rfl⟩) rfl rfl rfl rfl (fun _ _ => pc_c00) (fun u_4 H locs hq hw => ?_)
  have hw : pc_S D A s.heap [(h0, .inr (9, [.ref aco, .ref ali, .ref acu, .ref a1, .ref a2, .ref apd, .ref asc, .ref fo, .int (zI (((wn : Nat) : Int))), .int (zI (((bn : Nat) : Int)))])), (aco, .inl (dA 5, 6, .inr (.inr (.inr (.inr kf))))), ((ca 0), .inr (1, [])), ((ca 1), .inr (2, [])), ((ca 3), .inr (4, [])), ((ca 4), .inr (5, [])), ((ca 5), .inr (6, [])), (ap, .inr (7, [.ref na, .ref ra, .int (zI (((xs.length : Nat) : Int))), .int (cz), .int (kd)])), ((ca 2), .inr (3, [])), (asc, .inr (0, [.ref sb, .int (zI ((((enc 2 k xs).length : Nat) : Int))), .int (zI 0)])), (sb, .inl (dA 0, 400, .inl u_4)), (na, .inl (dA 1, 24, .inl g))] H locs := hw
  have he_2 : RowIs (enc 2 k xs) u_4 := hq
  refine lv_aload_n X.x X.b dX1_tryCode_31 rfl (lv_at hl 0 rfl) ?_
  refine z_get X hw in_X1 0 rfl rfl 6 (by decide) q188 rfl rfl dX1_tryCode_32 ?_
  refine cv_i (c1 := 0) (s1 := 0) X hw [9] [0, 1, 2, 3, 4, 5, 6, 7, 8, 10, 11] (wr := [(h0, .inr (9, [.ref aco, .ref ali, .ref acu, .ref a1, .ref a2, .ref apd, .ref asc, .ref fo, .int (zI (((wn : Nat) : Int))), .int (zI (((bn : Nat) : Int)))])), (aco, .inl (dA 5, 6, .inr (.inr (.inr (.inr kf))))), ((ca 0), .inr (1, [])), ((ca 1), .inr (2, [])), ((ca 3), .inr (4, [])), ((ca 4), .inr (5, [])), ((ca 5), .inr (6, [])), (ap, .inr (7, [.ref na, .ref ra, .int (zI (((xs.length : Nat) : Int))), .int (cz), .int (kd)])), ((ca 2), .inr (3, [])), (sb, .inl (dA 0, 400, .inl u_4)), (na, .inl (dA 1, 24, .inl g))]) (va_runV (As := []) (rest := []) X.fix (m_Row_fits l hst D dA asc sb ((enc 2 k xs).length) (zI 0) (by omega) _) (cwV 0 X.t (lw_V q437 q438 q439 q46 q440) rfl rfl rfl (by decide +kernel) (pc_rmle (by decide) (by decide))) (pc_preV X hw [9] rfl rfl 0 9 rfl rfl rfl) rfl rfl hl.1 rfl (lv_room (Nat.le_of_ble_eq_true rfl)) dX1_tryCode_35 ⟨Nat.le_of_ble_eq_true rfl, Nat.le_of_ble_eq_true rfl⟩) rfl rfl rfl rfl (fun _ _ _ => pc_c00) (fun r_5 u_6 H locs hq hw => ?_)
  have hw : pc_S D A s.heap [(h0, .inr (9, [.ref aco, .ref ali, .ref acu, .ref a1, .ref a2, .ref apd, .ref asc, .ref fo, .int (zI (((wn : Nat) : Int))), .int (zI (((bn : Nat) : Int)))])), (aco, .inl (dA 5, 6, .inr (.inr (.inr (.inr kf))))), ((ca 0), .inr (1, [])), ((ca 1), .inr (2, [])), ((ca 3), .inr (4, [])), ((ca 4), .inr (5, [])), ((ca 5), .inr (6, [])), (ap, .inr (7, [.ref na, .ref ra, .int (zI (((xs.length : Nat) : Int))), .int (cz), .int (kd)])), ((ca 2), .inr (3, [])), (sb, .inl (dA 0, 400, .inl u_4)), (na, .inl (dA 1, 24, .inl g)), (asc, .inr (0, [.ref sb, .int (zI ((((enc 2 k xs).length : Nat) : Int))), .int (zI 0)]))] H locs := hw
  subst hq
  have hb8 := b2n_le (decide ((enc 2 k xs).length ≤ 400))
  have hb9 := b2n_dec0 (P := (enc 2 k xs).length ≤ 400)
  refine z_if_eq (tgt := 51) X dX1_tryCode_38 (by decide) (by omega) (fun c_7 => ?_) (fun c_7 => ?_)
  · skip
    refine z_iconst X dX1_tryCode_51 ?_
    have hw : pc_S D A s.heap [(h0, .inr (9, [.ref aco, .ref ali, .ref acu, .ref a1, .ref a2, .ref apd, .ref asc, .ref fo, .int (zI (((wn : Nat) : Int))), .int (zI (((bn : Nat) : Int)))])), (aco, .inl (dA 5, 6, .inr (.inr (.inr (.inr kf))))), ((ca 0), .inr (1, [])), ((ca 1), .inr (2, [])), ((ca 2), .inr (3, [])), ((ca 3), .inr (4, [])), ((ca 4), .inr (5, [])), ((ca 5), .inr (6, [])), (asc, .inr (0, [.ref sb, .int (zI ((((enc 2 k xs).length : Nat) : Int))), .int (zI 0)])), (sb, .inl (dA 0, 400, .inl u_4)), (ap, .inr (7, [.ref na, .ref ra, .int (zI (((xs.length : Nat) : Int))), .int (cz), .int (kd)])), (na, .inl (dA 1, 24, .inl g))] H locs := hw.sub [0, 1, 2, 3, 8, 4, 5, 6, 11, 9, 7, 10] rfl rfl
    exact exit u_4 dX1_tryCode_52 rfl ⟨by unfold tryR; rw [if_neg (by omega)], he_2⟩ hw (Nat.zero_le _) (Nat.zero_le _)
  · skip
    refine lv_aload_n X.x X.b dX1_tryCode_41 rfl (lv_at hl 0 rfl) ?_
    refine z_get X hw in_X1 0 rfl rfl 6 (by decide) q188 rfl rfl dX1_tryCode_42 ?_
    refine z_get X hw in_X10 11 rfl rfl 1 (by decide) q142 rfl rfl dX1_tryCode_45 ?_
    refine lv_goto (tgt := 52) X.x X.b dX1_tryCode_48 (by decide) ?_
    have hw : pc_S D A s.heap [(h0, .inr (9, [.ref aco, .ref ali, .ref acu, .ref a1, .ref a2, .ref apd, .ref asc, .ref fo, .int (zI (((wn : Nat) : Int))), .int (zI (((bn : Nat) : Int)))])), (aco, .inl (dA 5, 6, .inr (.inr (.inr (.inr kf))))), ((ca 0), .inr (1, [])), ((ca 1), .inr (2, [])), ((ca 2), .inr (3, [])), ((ca 3), .inr (4, [])), ((ca 4), .inr (5, [])), ((ca 5), .inr (6, [])), (asc, .inr (0, [.ref sb, .int (zI ((((enc 2 k xs).length : Nat) : Int))), .int (zI 0)])), (sb, .inl (dA 0, 400, .inl u_4)), (ap, .inr (7, [.ref na, .ref ra, .int (zI (((xs.length : Nat) : Int))), .int (cz), .int (kd)])), (na, .inl (dA 1, 24, .inl g))] H locs := hw.sub [0, 1, 2, 3, 8, 4, 5, 6, 11, 9, 7, 10] rfl rfl
    exact exit u_4 dX1_tryCode_52 rfl ⟨by unfold tryR; rw [if_pos (by omega)], he_2⟩ hw (Nat.zero_le _) (Nat.zero_le _)
set_option maxHeartbeats 4000000 in
/-- tryCode, code 3 -/
theorem m_tryCode_3 (l : Launch) (hst : l.stackTraces = false) (D : va_G) (dA : Nat → ClassId) (h0 aco ali acu a1 a2 apd asc fo wn bn : Nat) (hwb : wn ≤ 1000 ∧ bn ≤ 1000) (kf : Nat → Option Nat) (ca : Nat → Nat) (hkf : ∀ c, c < 6 → kf c = some (ca c)) (sb : Nat) (tm ta : Int32) (fs : Nat → Int32) (ap na ra : Nat) (xs : List Nat) (g : Nat → Int32) (hv : Valid xs) (hg : ArrIs xs g) (cz kd : Int32) (k : Nat) (hk : k ≤ 7) : pc_I l yX1_tryCode cX1_tryCode 4 .int (pc_rm 10 0 0) D dA [.ref h0, .ref ap, .int (zI (((3 : Nat) : Int))), .int (zI (((k : Nat) : Int)))] [(h0, .inr (9, [.ref aco, .ref ali, .ref acu, .ref a1, .ref a2, .ref apd, .ref asc, .ref fo, .int (zI (((wn : Nat) : Int))), .int (zI (((bn : Nat) : Int)))])), (aco, .inl (dA 5, 6, .inr (.inr (.inr (.inr kf))))), ((ca 0), .inr (1, [])), ((ca 1), .inr (2, [])), ((ca 2), .inr (3, [])), ((ca 3), .inr (4, [])), ((ca 4), .inr (5, [])), ((ca 5), .inr (6, [])), (asc, .inr (0, [.ref sb, .int (tm), .int (ta)])), (sb, .inl (dA 0, 400, .inl fs)), (ap, .inr (7, [.ref na, .ref ra, .int (zI (((xs.length : Nat) : Int))), .int (cz), .int (kd)])), (na, .inl (dA 1, 24, .inl g))] (fun r (f' : Nat → Int32) => r = zI (tryR 3 k xs) ∧ RowIs (enc 3 k xs) f') (fun f' => [(h0, .inr (9, [.ref aco, .ref ali, .ref acu, .ref a1, .ref a2, .ref apd, .ref asc, .ref fo, .int (zI (((wn : Nat) : Int))), .int (zI (((bn : Nat) : Int)))])), (aco, .inl (dA 5, 6, .inr (.inr (.inr (.inr kf))))), ((ca 0), .inr (1, [])), ((ca 1), .inr (2, [])), ((ca 2), .inr (3, [])), ((ca 3), .inr (4, [])), ((ca 4), .inr (5, [])), ((ca 5), .inr (6, [])), (asc, .inr (0, [.ref sb, .int (zI ((((enc 3 k xs).length : Nat) : Int))), .int (zI 0)])), (sb, .inl (dA 0, 400, .inl f')), (ap, .inr (7, [.ref na, .ref ra, .int (zI (((xs.length : Nat) : Int))), .int (cz), .int (kd)])), (na, .inl (dA 1, 24, .inl g))]) := by
  refine st_i hst (by decide) RX1 rfl (Nat.le_of_ble_eq_true rfl) ?_
  intro pg ev s mt args below meth cd R A Q hR X exit H locs hw ls hl
  subst hR
  have hl : lv_has ls 4 [(0, .ref h0), (1, .ref ap), (2, .int (zI (((3 : Nat) : Int)))), (3, .int (zI (((k : Nat) : Int))))] := hl
  have hel := enc_len (c := 3) hv hk
  have hv1 := hv.1
  refine lv_aload_n X.x X.b dX1_tryCode_0 rfl (lv_at hl 0 rfl) ?_
  refine z_get X hw in_X1 0 rfl rfl 6 (by decide) q188 rfl rfl dX1_tryCode_1 ?_
  refine cv_v (c1 := 0) (s1 := 0) X hw [8] [0, 1, 2, 3, 4, 5, 6, 7, 9, 10, 11] (wr := [(h0, .inr (9, [.ref aco, .ref ali, .ref acu, .ref a1, .ref a2, .ref apd, .ref asc, .ref fo, .int (zI (((wn : Nat) : Int))), .int (zI (((bn : Nat) : Int)))])), (aco, .inl (dA 5, 6, .inr (.inr (.inr (.inr kf))))), ((ca 0), .inr (1, [])), ((ca 1), .inr (2, [])), ((ca 2), .inr (3, [])), ((ca 3), .inr (4, [])), ((ca 4), .inr (5, [])), ((ca 5), .inr (6, [])), (sb, .inl (dA 0, 400, .inl fs)), (ap, .inr (7, [.ref na, .ref ra, .int (zI (((xs.length : Nat) : Int))), .int (cz), .int (kd)])), (na, .inl (dA 1, 24, .inl g))]) (va_runV (As := []) (rest := []) X.fix (m_Row_begin l hst D dA asc sb (tm) (ta) _) (cwV 0 X.t (lw_V q359 q360 q361 q46 q362) rfl rfl rfl (by decide +kernel) (pc_rmle (by decide) (by decide))) (pc_preV X hw [8] rfl rfl 0 8 rfl rfl rfl) rfl rfl hl.1 rfl (lv_room (Nat.le_of_ble_eq_true rfl)) dX1_tryCode_4 ⟨Nat.le_of_ble_eq_true rfl, Nat.le_of_ble_eq_true rfl⟩) rfl rfl rfl rfl (fun _ _ => pc_c00) (fun u_2 H locs hq hw => ?_)
  have hw : pc_S D A s.heap [(h0, .inr (9, [.ref aco, .ref ali, .ref acu, .ref a1, .ref a2, .ref apd, .ref asc, .ref fo, .int (zI (((wn : Nat) : Int))), .int (zI (((bn : Nat) : Int)))])), (aco, .inl (dA 5, 6, .inr (.inr (.inr (.inr kf))))), ((ca 0), .inr (1, [])), ((ca 1), .inr (2, [])), ((ca 2), .inr (3, [])), ((ca 3), .inr (4, [])), ((ca 4), .inr (5, [])), ((ca 5), .inr (6, [])), (sb, .inl (dA 0, 400, .inl fs)), (ap, .inr (7, [.ref na, .ref ra, .int (zI (((xs.length : Nat) : Int))), .int (cz), .int (kd)])), (na, .inl (dA 1, 24, .inl g)), (asc, .inr (0, [.ref sb, .int (zI 0), .int (zI 0)]))] H locs := hw
  refine lv_aload_n X.x X.b dX1_tryCode_7 rfl (lv_at hl 0 rfl) ?_
  refine z_get X hw in_X1 0 rfl rfl 0 (by decide) q182 rfl rfl dX1_tryCode_8 ?_
  refine lv_iload_n X.x X.b dX1_tryCode_11 rfl (lv_at hl 2 rfl) ?_
  refine z_aald X hw 1 5 3 rfl rfl (by decide) (by omega) (v := .ref (ca 3)) (congrArg va_rf (hkf 3 (by decide))) dX1_tryCode_12 ?_
  refine lv_aload_n X.x X.b dX1_tryCode_13 rfl (lv_at hl 0 rfl) ?_
  refine z_get X hw in_X1 0 rfl rfl 6 (by decide) q188 rfl rfl dX1_tryCode_14 ?_
  refine lv_aload_n X.x X.b dX1_tryCode_17 rfl (lv_at hl 1 rfl) ?_
  refine z_get X hw in_X11 9 rfl rfl 0 (by decide) q161 rfl rfl dX1_tryCode_18 ?_
  refine lv_aload_n X.x X.b dX1_tryCode_21 rfl (lv_at hl 1 rfl) ?_
  refine z_get X hw in_X11 9 rfl rfl 2 (by decide) q166 rfl rfl dX1_tryCode_22 ?_
  refine lv_iload_n X.x X.b dX1_tryCode_25 rfl (lv_at hl 3 rfl) ?_
  refine cv_v5 (c1 := 0) (s1 := 0) X hw [5, 11, 8, 10] [0, 1, 2, 3, 4, 6, 7, 9] (wr := [(h0, .inr (9, [.ref aco, .ref ali, .ref acu, .ref a1, .ref a2, .ref apd, .ref asc, .ref fo, .int (zI (((wn : Nat) : Int))), .int (zI (((bn : Nat) : Int)))])), (aco, .inl (dA 5, 6, .inr (.inr (.inr (.inr kf))))), ((ca 0), .inr (1, [])), ((ca 1), .inr (2, [])), ((ca 2), .inr (3, [])), ((ca 4), .inr (5, [])), ((ca 5), .inr (6, [])), (ap, .inr (7, [.ref na, .ref ra, .int (zI (((xs.length : Nat) : Int))), .int (cz), .int (kd)]))]) (va_runF (As := [.ref asc, .ref na, .int (zI (((xs.length : Nat) : Int))), .int (zI (((k : Nat) : Int)))]) (rest := []) (pc_at X 4 rfl) X.fix (m_enc_3 l hst D dA (ca 3) asc sb na (zI 0) xs k fs g hv hg _) (va_cwF (x := (mn_ "PostingCodes$Code" "encode" "(LPostingCodes$Row;[SII)V")) (C := RX6) 4 X.t (lw_F q364 q395 q397 q42 q399) rfl rfl rfl (pc_nf X.N 3 rfl) (by decide +kernel) (pc_rmle (by decide) (by decide))) (pc_preV X hw [5, 11, 8, 10] rfl rfl 4 5 rfl rfl rfl) rfl rfl hl.1 rfl (lv_room (Nat.le_of_ble_eq_true rfl)) dX1_tryCode_26 ⟨Nat.le_of_ble_eq_true rfl, Nat.le_of_ble_eq_true rfl⟩) rfl rfl rfl rfl (fun _ _ => pc_c00) (fun u_4 H locs hq hw => ?_)
  have hw : pc_S D A s.heap [(h0, .inr (9, [.ref aco, .ref ali, .ref acu, .ref a1, .ref a2, .ref apd, .ref asc, .ref fo, .int (zI (((wn : Nat) : Int))), .int (zI (((bn : Nat) : Int)))])), (aco, .inl (dA 5, 6, .inr (.inr (.inr (.inr kf))))), ((ca 0), .inr (1, [])), ((ca 1), .inr (2, [])), ((ca 2), .inr (3, [])), ((ca 4), .inr (5, [])), ((ca 5), .inr (6, [])), (ap, .inr (7, [.ref na, .ref ra, .int (zI (((xs.length : Nat) : Int))), .int (cz), .int (kd)])), ((ca 3), .inr (4, [])), (asc, .inr (0, [.ref sb, .int (zI ((((enc 3 k xs).length : Nat) : Int))), .int (zI 0)])), (sb, .inl (dA 0, 400, .inl u_4)), (na, .inl (dA 1, 24, .inl g))] H locs := hw
  have he_3 : RowIs (enc 3 k xs) u_4 := hq
  refine lv_aload_n X.x X.b dX1_tryCode_31 rfl (lv_at hl 0 rfl) ?_
  refine z_get X hw in_X1 0 rfl rfl 6 (by decide) q188 rfl rfl dX1_tryCode_32 ?_
  refine cv_i (c1 := 0) (s1 := 0) X hw [9] [0, 1, 2, 3, 4, 5, 6, 7, 8, 10, 11] (wr := [(h0, .inr (9, [.ref aco, .ref ali, .ref acu, .ref a1, .ref a2, .ref apd, .ref asc, .ref fo, .int (zI (((wn : Nat) : Int))), .int (zI (((bn : Nat) : Int)))])), (aco, .inl (dA 5, 6, .inr (.inr (.inr (.inr kf))))), ((ca 0), .inr (1, [])), ((ca 1), .inr (2, [])), ((ca 2), .inr (3, [])), ((ca 4), .inr (5, [])), ((ca 5), .inr (6, [])), (ap, .inr (7, [.ref na, .ref ra, .int (zI (((xs.length : Nat) : Int))), .int (cz), .int (kd)])), ((ca 3), .inr (4, [])), (sb, .inl (dA 0, 400, .inl u_4)), (na, .inl (dA 1, 24, .inl g))]) (va_runV (As := []) (rest := []) X.fix (m_Row_fits l hst D dA asc sb ((enc 3 k xs).length) (zI 0) (by omega) _) (cwV 0 X.t (lw_V q437 q438 q439 q46 q440) rfl rfl rfl (by decide +kernel) (pc_rmle (by decide) (by decide))) (pc_preV X hw [9] rfl rfl 0 9 rfl rfl rfl) rfl rfl hl.1 rfl (lv_room (Nat.le_of_ble_eq_true rfl)) dX1_tryCode_35 ⟨Nat.le_of_ble_eq_true rfl, Nat.le_of_ble_eq_true rfl⟩) rfl rfl rfl rfl (fun _ _ _ => pc_c00) (fun r_5 u_6 H locs hq hw => ?_)
  have hw : pc_S D A s.heap [(h0, .inr (9, [.ref aco, .ref ali, .ref acu, .ref a1, .ref a2, .ref apd, .ref asc, .ref fo, .int (zI (((wn : Nat) : Int))), .int (zI (((bn : Nat) : Int)))])), (aco, .inl (dA 5, 6, .inr (.inr (.inr (.inr kf))))), ((ca 0), .inr (1, [])), ((ca 1), .inr (2, [])), ((ca 2), .inr (3, [])), ((ca 4), .inr (5, [])), ((ca 5), .inr (6, [])), (ap, .inr (7, [.ref na, .ref ra, .int (zI (((xs.length : Nat) : Int))), .int (cz), .int (kd)])), ((ca 3), .inr (4, [])), (sb, .inl (dA 0, 400, .inl u_4)), (na, .inl (dA 1, 24, .inl g)), (asc, .inr (0, [.ref sb, .int (zI ((((enc 3 k xs).length : Nat) : Int))), .int (zI 0)]))] H locs := hw
  subst hq
  have hb8 := b2n_le (decide ((enc 3 k xs).length ≤ 400))
  have hb9 := b2n_dec0 (P := (enc 3 k xs).length ≤ 400)
  refine z_if_eq (tgt := 51) X dX1_tryCode_38 (by decide) (by omega) (fun c_7 => ?_) (fun c_7 => ?_)
  · skip
    refine z_iconst X dX1_tryCode_51 ?_
    have hw : pc_S D A s.heap [(h0, .inr (9, [.ref aco, .ref ali, .ref acu, .ref a1, .ref a2, .ref apd, .ref asc, .ref fo, .int (zI (((wn : Nat) : Int))), .int (zI (((bn : Nat) : Int)))])), (aco, .inl (dA 5, 6, .inr (.inr (.inr (.inr kf))))), ((ca 0), .inr (1, [])), ((ca 1), .inr (2, [])), ((ca 2), .inr (3, [])), ((ca 3), .inr (4, [])), ((ca 4), .inr (5, [])), ((ca 5), .inr (6, [])), (asc, .inr (0, [.ref sb, .int (zI ((((enc 3 k xs).length : Nat) : Int))), .int (zI 0)])), (sb, .inl (dA 0, 400, .inl u_4)), (ap, .inr (7, [.ref na, .ref ra, .int (zI (((xs.length : Nat) : Int))), .int (cz), .int (kd)])), (na, .inl (dA 1, 24, .inl g))] H locs := hw.sub [0, 1, 2, 3, 4, 8, 5, 6, 11, 9, 7, 10] rfl rfl
    exact exit u_4 dX1_tryCode_52 rfl ⟨by unfold tryR; rw [if_neg (by omega)], he_3⟩ hw (Nat.zero_le _) (Nat.zero_le _)
  · skip
    refine lv_aload_n X.x X.b dX1_tryCode_41 rfl (lv_at hl 0 rfl) ?_
    refine z_get X hw in_X1 0 rfl rfl 6 (by decide) q188 rfl rfl dX1_tryCode_42 ?_
    refine z_get X hw in_X10 11 rfl rfl 1 (by decide) q142 rfl rfl dX1_tryCode_45 ?_
    refine lv_goto (tgt := 52) X.x X.b dX1_tryCode_48 (by decide) ?_
    have hw : pc_S D A s.heap [(h0, .inr (9, [.ref aco, .ref ali, .ref acu, .ref a1, .ref a2, .ref apd, .ref asc, .ref fo, .int (zI (((wn : Nat) : Int))), .int (zI (((bn : Nat) : Int)))])), (aco, .inl (dA 5, 6, .inr (.inr (.inr (.inr kf))))), ((ca 0), .inr (1, [])), ((ca 1), .inr (2, [])), ((ca 2), .inr (3, [])), ((ca 3), .inr (4, [])), ((ca 4), .inr (5, [])), ((ca 5), .inr (6, [])), (asc, .inr (0, [.ref sb, .int (zI ((((enc 3 k xs).length : Nat) : Int))), .int (zI 0)])), (sb, .inl (dA 0, 400, .inl u_4)), (ap, .inr (7, [.ref na, .ref ra, .int (zI (((xs.length : Nat) : Int))), .int (cz), .int (kd)])), (na, .inl (dA 1, 24, .inl g))] H locs := hw.sub [0, 1, 2, 3, 4, 8, 5, 6, 11, 9, 7, 10] rfl rfl
    exact exit u_4 dX1_tryCode_52 rfl ⟨by unfold tryR; rw [if_pos (by omega)], he_3⟩ hw (Nat.zero_le _) (Nat.zero_le _)
set_option maxHeartbeats 4000000 in
/-- tryCode, code 4 -/
theorem m_tryCode_4 (l : Launch) (hst : l.stackTraces = false) (D : va_G) (dA : Nat → ClassId) (h0 aco ali acu a1 a2 apd asc fo wn bn : Nat) (hwb : wn ≤ 1000 ∧ bn ≤ 1000) (kf : Nat → Option Nat) (ca : Nat → Nat) (hkf : ∀ c, c < 6 → kf c = some (ca c)) (sb : Nat) (tm ta : Int32) (fs : Nat → Int32) (ap na ra : Nat) (xs : List Nat) (g : Nat → Int32) (hv : Valid xs) (hg : ArrIs xs g) (cz kd : Int32) (k : Nat) (hk : k ≤ 7) : pc_I l yX1_tryCode cX1_tryCode 4 .int (pc_rm 10 0 0) D dA [.ref h0, .ref ap, .int (zI (((4 : Nat) : Int))), .int (zI (((k : Nat) : Int)))] [(h0, .inr (9, [.ref aco, .ref ali, .ref acu, .ref a1, .ref a2, .ref apd, .ref asc, .ref fo, .int (zI (((wn : Nat) : Int))), .int (zI (((bn : Nat) : Int)))])), (aco, .inl (dA 5, 6, .inr (.inr (.inr (.inr kf))))), ((ca 0), .inr (1, [])), ((ca 1), .inr (2, [])), ((ca 2), .inr (3, [])), ((ca 3), .inr (4, [])), ((ca 4), .inr (5, [])), ((ca 5), .inr (6, [])), (asc, .inr (0, [.ref sb, .int (tm), .int (ta)])), (sb, .inl (dA 0, 400, .inl fs)), (ap, .inr (7, [.ref na, .ref ra, .int (zI (((xs.length : Nat) : Int))), .int (cz), .int (kd)])), (na, .inl (dA 1, 24, .inl g))] (fun r (f' : Nat → Int32) => r = zI (tryR 4 k xs) ∧ RowIs (enc 4 k xs) f') (fun f' => [(h0, .inr (9, [.ref aco, .ref ali, .ref acu, .ref a1, .ref a2, .ref apd, .ref asc, .ref fo, .int (zI (((wn : Nat) : Int))), .int (zI (((bn : Nat) : Int)))])), (aco, .inl (dA 5, 6, .inr (.inr (.inr (.inr kf))))), ((ca 0), .inr (1, [])), ((ca 1), .inr (2, [])), ((ca 2), .inr (3, [])), ((ca 3), .inr (4, [])), ((ca 4), .inr (5, [])), ((ca 5), .inr (6, [])), (asc, .inr (0, [.ref sb, .int (zI ((((enc 4 k xs).length : Nat) : Int))), .int (zI 0)])), (sb, .inl (dA 0, 400, .inl f')), (ap, .inr (7, [.ref na, .ref ra, .int (zI (((xs.length : Nat) : Int))), .int (cz), .int (kd)])), (na, .inl (dA 1, 24, .inl g))]) := by
  refine st_i hst (by decide) RX1 rfl (Nat.le_of_ble_eq_true rfl) ?_
  intro pg ev s mt args below meth cd R A Q hR X exit H locs hw ls hl
  subst hR
  have hl : lv_has ls 4 [(0, .ref h0), (1, .ref ap), (2, .int (zI (((4 : Nat) : Int)))), (3, .int (zI (((k : Nat) : Int))))] := hl
  have hel := enc_len (c := 4) hv hk
  have hv1 := hv.1
  refine lv_aload_n X.x X.b dX1_tryCode_0 rfl (lv_at hl 0 rfl) ?_
  refine z_get X hw in_X1 0 rfl rfl 6 (by decide) q188 rfl rfl dX1_tryCode_1 ?_
  refine cv_v (c1 := 0) (s1 := 0) X hw [8] [0, 1, 2, 3, 4, 5, 6, 7, 9, 10, 11] (wr := [(h0, .inr (9, [.ref aco, .ref ali, .ref acu, .ref a1, .ref a2, .ref apd, .ref asc, .ref fo, .int (zI (((wn : Nat) : Int))), .int (zI (((bn : Nat) : Int)))])), (aco, .inl (dA 5, 6, .inr (.inr (.inr (.inr kf))))), ((ca 0), .inr (1, [])), ((ca 1), .inr (2, [])), ((ca 2), .inr (3, [])), ((ca 3), .inr (4, [])), ((ca 4), .inr (5, [])), ((ca 5), .inr (6, [])), (sb, .inl (dA 0, 400, .inl fs)), (ap, .inr (7, [.ref na, .ref ra, .int (zI (((xs.length : Nat) : Int))), .int (cz), .int (kd)])), (na, .inl (dA 1, 24, .inl g))]) (va_runV (As := []) (rest := []) X.fix (m_Row_begin l hst D dA asc sb (tm) (ta) _) (cwV 0 X.t (lw_V q359 q360 q361 q46 q362) rfl rfl rfl (by decide +kernel) (pc_rmle (by decide) (by decide))) (pc_preV X hw [8] rfl rfl 0 8 rfl rfl rfl) rfl rfl hl.1 rfl (lv_room (Nat.le_of_ble_eq_true rfl)) dX1_tryCode_4 ⟨Nat.le_of_ble_eq_true rfl, Nat.le_of_ble_eq_true rfl⟩) rfl rfl rfl rfl (fun _ _ => pc_c00) (fun u_2 H locs hq hw => ?_)
  have hw : pc_S D A s.heap [(h0, .inr (9, [.ref aco, .ref ali, .ref acu, .ref a1, .ref a2, .ref apd, .ref asc, .ref fo, .int (zI (((wn : Nat) : Int))), .int (zI (((bn : Nat) : Int)))])), (aco, .inl (dA 5, 6, .inr (.inr (.inr (.inr kf))))), ((ca 0), .inr (1, [])), ((ca 1), .inr (2, [])), ((ca 2), .inr (3, [])), ((ca 3), .inr (4, [])), ((ca 4), .inr (5, [])), ((ca 5), .inr (6, [])), (sb, .inl (dA 0, 400, .inl fs)), (ap, .inr (7, [.ref na, .ref ra, .int (zI (((xs.length : Nat) : Int))), .int (cz), .int (kd)])), (na, .inl (dA 1, 24, .inl g)), (asc, .inr (0, [.ref sb, .int (zI 0), .int (zI 0)]))] H locs := hw
  refine lv_aload_n X.x X.b dX1_tryCode_7 rfl (lv_at hl 0 rfl) ?_
  refine z_get X hw in_X1 0 rfl rfl 0 (by decide) q182 rfl rfl dX1_tryCode_8 ?_
  refine lv_iload_n X.x X.b dX1_tryCode_11 rfl (lv_at hl 2 rfl) ?_
  refine z_aald X hw 1 5 4 rfl rfl (by decide) (by omega) (v := .ref (ca 4)) (congrArg va_rf (hkf 4 (by decide))) dX1_tryCode_12 ?_
  refine lv_aload_n X.x X.b dX1_tryCode_13 rfl (lv_at hl 0 rfl) ?_
  refine z_get X hw in_X1 0 rfl rfl 6 (by decide) q188 rfl rfl dX1_tryCode_14 ?_
  refine lv_aload_n X.x X.b dX1_tryCode_17 rfl (lv_at hl 1 rfl) ?_
  refine z_get X hw in_X11 9 rfl rfl 0 (by decide) q161 rfl rfl dX1_tryCode_18 ?_
  refine lv_aload_n X.x X.b dX1_tryCode_21 rfl (lv_at hl 1 rfl) ?_
  refine z_get X hw in_X11 9 rfl rfl 2 (by decide) q166 rfl rfl dX1_tryCode_22 ?_
  refine lv_iload_n X.x X.b dX1_tryCode_25 rfl (lv_at hl 3 rfl) ?_
  refine cv_v5 (c1 := 0) (s1 := 0) X hw [6, 11, 8, 10] [0, 1, 2, 3, 4, 5, 7, 9] (wr := [(h0, .inr (9, [.ref aco, .ref ali, .ref acu, .ref a1, .ref a2, .ref apd, .ref asc, .ref fo, .int (zI (((wn : Nat) : Int))), .int (zI (((bn : Nat) : Int)))])), (aco, .inl (dA 5, 6, .inr (.inr (.inr (.inr kf))))), ((ca 0), .inr (1, [])), ((ca 1), .inr (2, [])), ((ca 2), .inr (3, [])), ((ca 3), .inr (4, [])), ((ca 5), .inr (6, [])), (ap, .inr (7, [.ref na, .ref ra, .int (zI (((xs.length : Nat) : Int))), .int (cz), .int (kd)]))]) (va_runF (As := [.ref asc, .ref na, .int (zI (((xs.length : Nat) : Int))), .int (zI (((k : Nat) : Int)))]) (rest := []) (pc_at X 5 rfl) X.fix (m_enc_4 l hst D dA (ca 4) asc sb na (zI 0) xs k fs g hv hg _) (va_cwF (x := (mn_ "PostingCodes$Code" "encode" "(LPostingCodes$Row;[SII)V")) (C := RX7) 4 X.t (lw_F q364 q428 q430 q43 q432) rfl rfl rfl (pc_nf X.N 4 rfl) (by decide +kernel) (pc_rmle (by decide) (by decide))) (pc_preV X hw [6, 11, 8, 10] rfl rfl 5 6 rfl rfl rfl) rfl rfl hl.1 rfl (lv_room (Nat.le_of_ble_eq_true rfl)) dX1_tryCode_26 ⟨Nat.le_of_ble_eq_true rfl, Nat.le_of_ble_eq_true rfl⟩) rfl rfl rfl rfl (fun _ _ => pc_c00) (fun u_4 H locs hq hw => ?_)
  have hw : pc_S D A s.heap [(h0, .inr (9, [.ref aco, .ref ali, .ref acu, .ref a1, .ref a2, .ref apd, .ref asc, .ref fo, .int (zI (((wn : Nat) : Int))), .int (zI (((bn : Nat) : Int)))])), (aco, .inl (dA 5, 6, .inr (.inr (.inr (.inr kf))))), ((ca 0), .inr (1, [])), ((ca 1), .inr (2, [])), ((ca 2), .inr (3, [])), ((ca 3), .inr (4, [])), ((ca 5), .inr (6, [])), (ap, .inr (7, [.ref na, .ref ra, .int (zI (((xs.length : Nat) : Int))), .int (cz), .int (kd)])), ((ca 4), .inr (5, [])), (asc, .inr (0, [.ref sb, .int (zI ((((enc 4 k xs).length : Nat) : Int))), .int (zI 0)])), (sb, .inl (dA 0, 400, .inl u_4)), (na, .inl (dA 1, 24, .inl g))] H locs := hw
  have he_4 : RowIs (enc 4 k xs) u_4 := hq
  refine lv_aload_n X.x X.b dX1_tryCode_31 rfl (lv_at hl 0 rfl) ?_
  refine z_get X hw in_X1 0 rfl rfl 6 (by decide) q188 rfl rfl dX1_tryCode_32 ?_
  refine cv_i (c1 := 0) (s1 := 0) X hw [9] [0, 1, 2, 3, 4, 5, 6, 7, 8, 10, 11] (wr := [(h0, .inr (9, [.ref aco, .ref ali, .ref acu, .ref a1, .ref a2, .ref apd, .ref asc, .ref fo, .int (zI (((wn : Nat) : Int))), .int (zI (((bn : Nat) : Int)))])), (aco, .inl (dA 5, 6, .inr (.inr (.inr (.inr kf))))), ((ca 0), .inr (1, [])), ((ca 1), .inr (2, [])), ((ca 2), .inr (3, [])), ((ca 3), .inr (4, [])), ((ca 5), .inr (6, [])), (ap, .inr (7, [.ref na, .ref ra, .int (zI (((xs.length : Nat) : Int))), .int (cz), .int (kd)])), ((ca 4), .inr (5, [])), (sb, .inl (dA 0, 400, .inl u_4)), (na, .inl (dA 1, 24, .inl g))]) (va_runV (As := []) (rest := []) X.fix (m_Row_fits l hst D dA asc sb ((enc 4 k xs).length) (zI 0) (by omega) _) (cwV 0 X.t (lw_V q437 q438 q439 q46 q440) rfl rfl rfl (by decide +kernel) (pc_rmle (by decide) (by decide))) (pc_preV X hw [9] rfl rfl 0 9 rfl rfl rfl) rfl rfl hl.1 rfl (lv_room (Nat.le_of_ble_eq_true rfl)) dX1_tryCode_35 ⟨Nat.le_of_ble_eq_true rfl, Nat.le_of_ble_eq_true rfl⟩) rfl rfl rfl rfl (fun _ _ _ => pc_c00) (fun r_5 u_6 H locs hq hw => ?_)
  have hw : pc_S D A s.heap [(h0, .inr (9, [.ref aco, .ref ali, .ref acu, .ref a1, .ref a2, .ref apd, .ref asc, .ref fo, .int (zI (((wn : Nat) : Int))), .int (zI (((bn : Nat) : Int)))])), (aco, .inl (dA 5, 6, .inr (.inr (.inr (.inr kf))))), ((ca 0), .inr (1, [])), ((ca 1), .inr (2, [])), ((ca 2), .inr (3, [])), ((ca 3), .inr (4, [])), ((ca 5), .inr (6, [])), (ap, .inr (7, [.ref na, .ref ra, .int (zI (((xs.length : Nat) : Int))), .int (cz), .int (kd)])), ((ca 4), .inr (5, [])), (sb, .inl (dA 0, 400, .inl u_4)), (na, .inl (dA 1, 24, .inl g)), (asc, .inr (0, [.ref sb, .int (zI ((((enc 4 k xs).length : Nat) : Int))), .int (zI 0)]))] H locs := hw
  subst hq
  have hb8 := b2n_le (decide ((enc 4 k xs).length ≤ 400))
  have hb9 := b2n_dec0 (P := (enc 4 k xs).length ≤ 400)
  refine z_if_eq (tgt := 51) X dX1_tryCode_38 (by decide) (by omega) (fun c_7 => ?_) (fun c_7 => ?_)
  · skip
    refine z_iconst X dX1_tryCode_51 ?_
    have hw : pc_S D A s.heap [(h0, .inr (9, [.ref aco, .ref ali, .ref acu, .ref a1, .ref a2, .ref apd, .ref asc, .ref fo, .int (zI (((wn : Nat) : Int))), .int (zI (((bn : Nat) : Int)))])), (aco, .inl (dA 5, 6, .inr (.inr (.inr (.inr kf))))), ((ca 0), .inr (1, [])), ((ca 1), .inr (2, [])), ((ca 2), .inr (3, [])), ((ca 3), .inr (4, [])), ((ca 4), .inr (5, [])), ((ca 5), .inr (6, [])), (asc, .inr (0, [.ref sb, .int (zI ((((enc 4 k xs).length : Nat) : Int))), .int (zI 0)])), (sb, .inl (dA 0, 400, .inl u_4)), (ap, .inr (7, [.ref na, .ref ra, .int (zI (((xs.length : Nat) : Int))), .int (cz), .int (kd)])), (na, .inl (dA 1, 24, .inl g))] H locs := hw.sub [0, 1, 2, 3, 4, 5, 8, 6, 11, 9, 7, 10] rfl rfl
    exact exit u_4 dX1_tryCode_52 rfl ⟨by unfold tryR; rw [if_neg (by omega)], he_4⟩ hw (Nat.zero_le _) (Nat.zero_le _)
  · skip
    refine lv_aload_n X.x X.b dX1_tryCode_41 rfl (lv_at hl 0 rfl) ?_
    refine z_get X hw in_X1 0 rfl rfl 6 (by decide) q188 rfl rfl dX1_tryCode_42 ?_
    refine z_get X hw in_X10 11 rfl rfl 1 (by decide) q142 rfl rfl dX1_tryCode_45 ?_
    refine lv_goto (tgt := 52) X.x X.b dX1_tryCode_48 (by decide) ?_
    have hw : pc_S D A s.heap [(h0, .inr (9, [.ref aco, .ref ali, .ref acu, .ref a1, .ref a2, .ref apd, .ref asc, .ref fo, .int (zI (((wn : Nat) : Int))), .int (zI (((bn : Nat) : Int)))])), (aco, .inl (dA 5, 6, .inr (.inr (.inr (.inr kf))))), ((ca 0), .inr (1, [])), ((ca 1), .inr (2, [])), ((ca 2), .inr (3, [])), ((ca 3), .inr (4, [])), ((ca 4), .inr (5, [])), ((ca 5), .inr (6, [])), (asc, .inr (0, [.ref sb, .int (zI ((((enc 4 k xs).length : Nat) : Int))), .int (zI 0)])), (sb, .inl (dA 0, 400, .inl u_4)), (ap, .inr (7, [.ref na, .ref ra, .int (zI (((xs.length : Nat) : Int))), .int (cz), .int (kd)])), (na, .inl (dA 1, 24, .inl g))] H locs := hw.sub [0, 1, 2, 3, 4, 5, 8, 6, 11, 9, 7, 10] rfl rfl
    exact exit u_4 dX1_tryCode_52 rfl ⟨by unfold tryR; rw [if_pos (by omega)], he_4⟩ hw (Nat.zero_le _) (Nat.zero_le _)
set_option maxHeartbeats 4000000 in
/-- tryCode, code 5 -/
theorem m_tryCode_5 (l : Launch) (hst : l.stackTraces = false) (D : va_G) (dA : Nat → ClassId) (h0 aco ali acu a1 a2 apd asc fo wn bn : Nat) (hwb : wn ≤ 1000 ∧ bn ≤ 1000) (kf : Nat → Option Nat) (ca : Nat → Nat) (hkf : ∀ c, c < 6 → kf c = some (ca c)) (sb : Nat) (tm ta : Int32) (fs : Nat → Int32) (ap na ra : Nat) (xs : List Nat) (g : Nat → Int32) (hv : Valid xs) (hg : ArrIs xs g) (cz kd : Int32) (k : Nat) (hk : k ≤ 7) : pc_I l yX1_tryCode cX1_tryCode 4 .int (pc_rm 10 0 0) D dA [.ref h0, .ref ap, .int (zI (((5 : Nat) : Int))), .int (zI (((k : Nat) : Int)))] [(h0, .inr (9, [.ref aco, .ref ali, .ref acu, .ref a1, .ref a2, .ref apd, .ref asc, .ref fo, .int (zI (((wn : Nat) : Int))), .int (zI (((bn : Nat) : Int)))])), (aco, .inl (dA 5, 6, .inr (.inr (.inr (.inr kf))))), ((ca 0), .inr (1, [])), ((ca 1), .inr (2, [])), ((ca 2), .inr (3, [])), ((ca 3), .inr (4, [])), ((ca 4), .inr (5, [])), ((ca 5), .inr (6, [])), (asc, .inr (0, [.ref sb, .int (tm), .int (ta)])), (sb, .inl (dA 0, 400, .inl fs)), (ap, .inr (7, [.ref na, .ref ra, .int (zI (((xs.length : Nat) : Int))), .int (cz), .int (kd)])), (na, .inl (dA 1, 24, .inl g))] (fun r (f' : Nat → Int32) => r = zI (tryR 5 k xs) ∧ RowIs (enc 5 k xs) f') (fun f' => [(h0, .inr (9, [.ref aco, .ref ali, .ref acu, .ref a1, .ref a2, .ref apd, .ref asc, .ref fo, .int (zI (((wn : Nat) : Int))), .int (zI (((bn : Nat) : Int)))])), (aco, .inl (dA 5, 6, .inr (.inr (.inr (.inr kf))))), ((ca 0), .inr (1, [])), ((ca 1), .inr (2, [])), ((ca 2), .inr (3, [])), ((ca 3), .inr (4, [])), ((ca 4), .inr (5, [])), ((ca 5), .inr (6, [])), (asc, .inr (0, [.ref sb, .int (zI ((((enc 5 k xs).length : Nat) : Int))), .int (zI 0)])), (sb, .inl (dA 0, 400, .inl f')), (ap, .inr (7, [.ref na, .ref ra, .int (zI (((xs.length : Nat) : Int))), .int (cz), .int (kd)])), (na, .inl (dA 1, 24, .inl g))]) := by
  refine st_i hst (by decide) RX1 rfl (Nat.le_of_ble_eq_true rfl) ?_
  intro pg ev s mt args below meth cd R A Q hR X exit H locs hw ls hl
  subst hR
  have hl : lv_has ls 4 [(0, .ref h0), (1, .ref ap), (2, .int (zI (((5 : Nat) : Int)))), (3, .int (zI (((k : Nat) : Int))))] := hl
  have hel := enc_len (c := 5) hv hk
  have hv1 := hv.1
  refine lv_aload_n X.x X.b dX1_tryCode_0 rfl (lv_at hl 0 rfl) ?_
  refine z_get X hw in_X1 0 rfl rfl 6 (by decide) q188 rfl rfl dX1_tryCode_1 ?_
  refine cv_v (c1 := 0) (s1 := 0) X hw [8] [0, 1, 2, 3, 4, 5, 6, 7, 9, 10, 11] (wr := [(h0, .inr (9, [.ref aco, .ref ali, .ref acu, .ref a1, .ref a2, .ref apd, .ref asc, .ref fo, .int (zI (((wn : Nat) : Int))), .int (zI (((bn : Nat) : Int)))])), (aco, .inl (dA 5, 6, .inr (.inr (.inr (.inr kf))))), ((ca 0), .inr (1, [])), ((ca 1), .inr (2, [])), ((ca 2), .inr (3, [])), ((ca 3), .inr (4, [])), ((ca 4), .inr (5, [])), ((ca 5), .inr (6, [])), (sb, .inl (dA 0, 400, .inl fs)), (ap, .inr (7, [.ref na, .ref ra, .int (zI (((xs.length : Nat) : Int))), .int (cz), .int (kd)])), (na, .inl (dA 1, 24, .inl g))]) (va_runV (As := []) (rest := []) X.fix (m_Row_begin l hst D dA asc sb (tm) (ta) _) (cwV 0 X.t (lw_V q359 q360 q361 q46 q362) rfl rfl rfl (by decide +kernel) (pc_rmle (by decide) (by decide))) (pc_preV X hw [8] rfl rfl 0 8 rfl rfl rfl) rfl rfl hl.1 rfl (lv_room (Nat.le_of_ble_eq_true rfl)) dX1_tryCode_4 ⟨Nat.le_of_ble_eq_true rfl, Nat.le_of_ble_eq_true rfl⟩) rfl rfl rfl rfl (fun _ _ => pc_c00) (fun u_2 H locs hq hw => ?_)
  have hw : pc_S D A s.heap [(h0, .inr (9, [.ref aco, .ref ali, .ref acu, .ref a1, .ref a2, .ref apd, .ref asc, .ref fo, .int (zI (((wn : Nat) : Int))), .int (zI (((bn : Nat) : Int)))])), (aco, .inl (dA 5, 6, .inr (.inr (.inr (.inr kf))))), ((ca 0), .inr (1, [])), ((ca 1), .inr (2, [])), ((ca 2), .inr (3, [])), ((ca 3), .inr (4, [])), ((ca 4), .inr (5, [])), ((ca 5), .inr (6, [])), (sb, .inl (dA 0, 400, .inl fs)), (ap, .inr (7, [.ref na, .ref ra, .int (zI (((xs.length : Nat) : Int))), .int (cz), .int (kd)])), (na, .inl (dA 1, 24, .inl g)), (asc, .inr (0, [.ref sb, .int (zI 0), .int (zI 0)]))] H locs := hw
  refine lv_aload_n X.x X.b dX1_tryCode_7 rfl (lv_at hl 0 rfl) ?_
  refine z_get X hw in_X1 0 rfl rfl 0 (by decide) q182 rfl rfl dX1_tryCode_8 ?_
  refine lv_iload_n X.x X.b dX1_tryCode_11 rfl (lv_at hl 2 rfl) ?_
  refine z_aald X hw 1 5 5 rfl rfl (by decide) (by omega) (v := .ref (ca 5)) (congrArg va_rf (hkf 5 (by decide))) dX1_tryCode_12 ?_
  refine lv_aload_n X.x X.b dX1_tryCode_13 rfl (lv_at hl 0 rfl) ?_
  refine z_get X hw in_X1 0 rfl rfl 6 (by decide) q188 rfl rfl dX1_tryCode_14 ?_
  refine lv_aload_n X.x X.b dX1_tryCode_17 rfl (lv_at hl 1 rfl) ?_
  refine z_get X hw in_X11 9 rfl rfl 0 (by decide) q161 rfl rfl dX1_tryCode_18 ?_
  refine lv_aload_n X.x X.b dX1_tryCode_21 rfl (lv_at hl 1 rfl) ?_
  refine z_get X hw in_X11 9 rfl rfl 2 (by decide) q166 rfl rfl dX1_tryCode_22 ?_
  refine lv_iload_n X.x X.b dX1_tryCode_25 rfl (lv_at hl 3 rfl) ?_
  refine cv_v5 (c1 := 0) (s1 := 0) X hw [7, 11, 8, 10] [0, 1, 2, 3, 4, 5, 6, 9] (wr := [(h0, .inr (9, [.ref aco, .ref ali, .ref acu, .ref a1, .ref a2, .ref apd, .ref asc, .ref fo, .int (zI (((wn : Nat) : Int))), .int (zI (((bn : Nat) : Int)))])), (aco, .inl (dA 5, 6, .inr (.inr (.inr (.inr kf))))), ((ca 0), .inr (1, [])), ((ca 1), .inr (2, [])), ((ca 2), .inr (3, [])), ((ca 3), .inr (4, [])), ((ca 4), .inr (5, [])), (ap, .inr (7, [.ref na, .ref ra, .int (zI (((xs.length : Nat) : Int))), .int (cz), .int (kd)]))]) (va_runF (As := [.ref asc, .ref na, .int (zI (((xs.length : Nat) : Int))), .int (zI (((k : Nat) : Int)))]) (rest := []) (pc_at X 6 rfl) X.fix (m_enc_5 l hst D dA (ca 5) asc sb na (zI 0) xs k fs g hv hg _) (va_cwF (x := (mn_ "PostingCodes$Code" "encode" "(LPostingCodes$Row;[SII)V")) (C := RX8) 4 X.t (lw_F q364 q409 q411 q44 q413) rfl rfl rfl (pc_nf X.N 5 rfl) (by decide +kernel) (pc_rmle (by decide) (by decide))) (pc_preV X hw [7, 11, 8, 10] rfl rfl 6 7 rfl rfl rfl) rfl rfl hl.1 rfl (lv_room (Nat.le_of_ble_eq_true rfl)) dX1_tryCode_26 ⟨Nat.le_of_ble_eq_true rfl, Nat.le_of_ble_eq_true rfl⟩) rfl rfl rfl rfl (fun _ _ => pc_c00) (fun u_4 H locs hq hw => ?_)
  have hw : pc_S D A s.heap [(h0, .inr (9, [.ref aco, .ref ali, .ref acu, .ref a1, .ref a2, .ref apd, .ref asc, .ref fo, .int (zI (((wn : Nat) : Int))), .int (zI (((bn : Nat) : Int)))])), (aco, .inl (dA 5, 6, .inr (.inr (.inr (.inr kf))))), ((ca 0), .inr (1, [])), ((ca 1), .inr (2, [])), ((ca 2), .inr (3, [])), ((ca 3), .inr (4, [])), ((ca 4), .inr (5, [])), (ap, .inr (7, [.ref na, .ref ra, .int (zI (((xs.length : Nat) : Int))), .int (cz), .int (kd)])), ((ca 5), .inr (6, [])), (asc, .inr (0, [.ref sb, .int (zI ((((enc 5 k xs).length : Nat) : Int))), .int (zI 0)])), (sb, .inl (dA 0, 400, .inl u_4)), (na, .inl (dA 1, 24, .inl g))] H locs := hw
  have he_5 : RowIs (enc 5 k xs) u_4 := hq
  refine lv_aload_n X.x X.b dX1_tryCode_31 rfl (lv_at hl 0 rfl) ?_
  refine z_get X hw in_X1 0 rfl rfl 6 (by decide) q188 rfl rfl dX1_tryCode_32 ?_
  refine cv_i (c1 := 0) (s1 := 0) X hw [9] [0, 1, 2, 3, 4, 5, 6, 7, 8, 10, 11] (wr := [(h0, .inr (9, [.ref aco, .ref ali, .ref acu, .ref a1, .ref a2, .ref apd, .ref asc, .ref fo, .int (zI (((wn : Nat) : Int))), .int (zI (((bn : Nat) : Int)))])), (aco, .inl (dA 5, 6, .inr (.inr (.inr (.inr kf))))), ((ca 0), .inr (1, [])), ((ca 1), .inr (2, [])), ((ca 2), .inr (3, [])), ((ca 3), .inr (4, [])), ((ca 4), .inr (5, [])), (ap, .inr (7, [.ref na, .ref ra, .int (zI (((xs.length : Nat) : Int))), .int (cz), .int (kd)])), ((ca 5), .inr (6, [])), (sb, .inl (dA 0, 400, .inl u_4)), (na, .inl (dA 1, 24, .inl g))]) (va_runV (As := []) (rest := []) X.fix (m_Row_fits l hst D dA asc sb ((enc 5 k xs).length) (zI 0) (by omega) _) (cwV 0 X.t (lw_V q437 q438 q439 q46 q440) rfl rfl rfl (by decide +kernel) (pc_rmle (by decide) (by decide))) (pc_preV X hw [9] rfl rfl 0 9 rfl rfl rfl) rfl rfl hl.1 rfl (lv_room (Nat.le_of_ble_eq_true rfl)) dX1_tryCode_35 ⟨Nat.le_of_ble_eq_true rfl, Nat.le_of_ble_eq_true rfl⟩) rfl rfl rfl rfl (fun _ _ _ => pc_c00) (fun r_5 u_6 H locs hq hw => ?_)
  have hw : pc_S D A s.heap [(h0, .inr (9, [.ref aco, .ref ali, .ref acu, .ref a1, .ref a2, .ref apd, .ref asc, .ref fo, .int (zI (((wn : Nat) : Int))), .int (zI (((bn : Nat) : Int)))])), (aco, .inl (dA 5, 6, .inr (.inr (.inr (.inr kf))))), ((ca 0), .inr (1, [])), ((ca 1), .inr (2, [])), ((ca 2), .inr (3, [])), ((ca 3), .inr (4, [])), ((ca 4), .inr (5, [])), (ap, .inr (7, [.ref na, .ref ra, .int (zI (((xs.length : Nat) : Int))), .int (cz), .int (kd)])), ((ca 5), .inr (6, [])), (sb, .inl (dA 0, 400, .inl u_4)), (na, .inl (dA 1, 24, .inl g)), (asc, .inr (0, [.ref sb, .int (zI ((((enc 5 k xs).length : Nat) : Int))), .int (zI 0)]))] H locs := hw
  subst hq
  have hb8 := b2n_le (decide ((enc 5 k xs).length ≤ 400))
  have hb9 := b2n_dec0 (P := (enc 5 k xs).length ≤ 400)
  refine z_if_eq (tgt := 51) X dX1_tryCode_38 (by decide) (by omega) (fun c_7 => ?_) (fun c_7 => ?_)
  · skip
    refine z_iconst X dX1_tryCode_51 ?_
    have hw : pc_S D A s.heap [(h0, .inr (9, [.ref aco, .ref ali, .ref acu, .ref a1, .ref a2, .ref apd, .ref asc, .ref fo, .int (zI (((wn : Nat) : Int))), .int (zI (((bn : Nat) : Int)))])), (aco, .inl (dA 5, 6, .inr (.inr (.inr (.inr kf))))), ((ca 0), .inr (1, [])), ((ca 1), .inr (2, [])), ((ca 2), .inr (3, [])), ((ca 3), .inr (4, [])), ((ca 4), .inr (5, [])), ((ca 5), .inr (6, [])), (asc, .inr (0, [.ref sb, .int (zI ((((enc 5 k xs).length : Nat) : Int))), .int (zI 0)])), (sb, .inl (dA 0, 400, .inl u_4)), (ap, .inr (7, [.ref na, .ref ra, .int (zI (((xs.length : Nat) : Int))), .int (cz), .int (kd)])), (na, .inl (dA 1, 24, .inl g))] H locs := hw.sub [0, 1, 2, 3, 4, 5, 6, 8, 11, 9, 7, 10] rfl rfl
    exact exit u_4 dX1_tryCode_52 rfl ⟨by unfold tryR; rw [if_neg (by omega)], he_5⟩ hw (Nat.zero_le _) (Nat.zero_le _)
  · skip
    refine lv_aload_n X.x X.b dX1_tryCode_41 rfl (lv_at hl 0 rfl) ?_
    refine z_get X hw in_X1 0 rfl rfl 6 (by decide) q188 rfl rfl dX1_tryCode_42 ?_
    refine z_get X hw in_X10 11 rfl rfl 1 (by decide) q142 rfl rfl dX1_tryCode_45 ?_
    refine lv_goto (tgt := 52) X.x X.b dX1_tryCode_48 (by decide) ?_
    have hw : pc_S D A s.heap [(h0, .inr (9, [.ref aco, .ref ali, .ref acu, .ref a1, .ref a2, .ref apd, .ref asc, .ref fo, .int (zI (((wn : Nat) : Int))), .int (zI (((bn : Nat) : Int)))])), (aco, .inl (dA 5, 6, .inr (.inr (.inr (.inr kf))))), ((ca 0), .inr (1, [])), ((ca 1), .inr (2, [])), ((ca 2), .inr (3, [])), ((ca 3), .inr (4, [])), ((ca 4), .inr (5, [])), ((ca 5), .inr (6, [])), (asc, .inr (0, [.ref sb, .int (zI ((((enc 5 k xs).length : Nat) : Int))), .int (zI 0)])), (sb, .inl (dA 0, 400, .inl u_4)), (ap, .inr (7, [.ref na, .ref ra, .int (zI (((xs.length : Nat) : Int))), .int (cz), .int (kd)])), (na, .inl (dA 1, 24, .inl g))] H locs := hw.sub [0, 1, 2, 3, 4, 5, 6, 8, 11, 9, 7, 10] rfl rfl
    exact exit u_4 dX1_tryCode_52 rfl ⟨by unfold tryR; rw [if_pos (by omega)], he_5⟩ hw (Nat.zero_le _) (Nat.zero_le _)
theorem m_tryCode (l : Launch) (hst : l.stackTraces = false) (D : va_G) (dA : Nat → ClassId) (h0 aco ali acu a1 a2 apd asc fo wn bn : Nat) (hwb : wn ≤ 1000 ∧ bn ≤ 1000) (kf : Nat → Option Nat) (ca : Nat → Nat) (hkf : ∀ c, c < 6 → kf c = some (ca c)) (sb : Nat) (tm ta : Int32) (fs : Nat → Int32) (ap na ra : Nat) (xs : List Nat) (g : Nat → Int32) (hv : Valid xs) (hg : ArrIs xs g) (cz kd : Int32) (k : Nat) (hk : k ≤ 7) (c : Nat) (hc : c < 6) : pc_I l yX1_tryCode cX1_tryCode 4 .int (pc_rm 10 0 0) D dA [.ref h0, .ref ap, .int (zI (((c : Nat) : Int))), .int (zI (((k : Nat) : Int)))] [(h0, .inr (9, [.ref aco, .ref ali, .ref acu, .ref a1, .ref a2, .ref apd, .ref asc, .ref fo, .int (zI (((wn : Nat) : Int))), .int (zI (((bn : Nat) : Int)))])), (aco, .inl (dA 5, 6, .inr (.inr (.inr (.inr kf))))), ((ca 0), .inr (1, [])), ((ca 1), .inr (2, [])), ((ca 2), .inr (3, [])), ((ca 3), .inr (4, [])), ((ca 4), .inr (5, [])), ((ca 5), .inr (6, [])), (asc, .inr (0, [.ref sb, .int (tm), .int (ta)])), (sb, .inl (dA 0, 400, .inl fs)), (ap, .inr (7, [.ref na, .ref ra, .int (zI (((xs.length : Nat) : Int))), .int (cz), .int (kd)])), (na, .inl (dA 1, 24, .inl g))] (fun r (f' : Nat → Int32) => r = zI (tryR c k xs) ∧ RowIs (enc c k xs) f') (fun f' => [(h0, .inr (9, [.ref aco, .ref ali, .ref acu, .ref a1, .ref a2, .ref apd, .ref asc, .ref fo, .int (zI (((wn : Nat) : Int))), .int (zI (((bn : Nat) : Int)))])), (aco, .inl (dA 5, 6, .inr (.inr (.inr (.inr kf))))), ((ca 0), .inr (1, [])), ((ca 1), .inr (2, [])), ((ca 2), .inr (3, [])), ((ca 3), .inr (4, [])), ((ca 4), .inr (5, [])), ((ca 5), .inr (6, [])), (asc, .inr (0, [.ref sb, .int (zI ((((enc c k xs).length : Nat) : Int))), .int (zI 0)])), (sb, .inl (dA 0, 400, .inl f')), (ap, .inr (7, [.ref na, .ref ra, .int (zI (((xs.length : Nat) : Int))), .int (cz), .int (kd)])), (na, .inl (dA 1, 24, .inl g))]) := by
  rcases (show c = 0 ∨ c = 1 ∨ c = 2 ∨ c = 3 ∨ c = 4 ∨ c = 5 by omega) with rfl | rfl | rfl | rfl | rfl | rfl
  · exact m_tryCode_0 l hst D dA h0 aco ali acu a1 a2 apd asc fo wn bn hwb kf ca hkf sb tm ta fs ap na ra xs g hv hg cz kd k hk
  · exact m_tryCode_1 l hst D dA h0 aco ali acu a1 a2 apd asc fo wn bn hwb kf ca hkf sb tm ta fs ap na ra xs g hv hg cz kd k hk
  · exact m_tryCode_2 l hst D dA h0 aco ali acu a1 a2 apd asc fo wn bn hwb kf ca hkf sb tm ta fs ap na ra xs g hv hg cz kd k hk
  · exact m_tryCode_3 l hst D dA h0 aco ali acu a1 a2 apd asc fo wn bn hwb kf ca hkf sb tm ta fs ap na ra xs g hv hg cz kd k hk
  · exact m_tryCode_4 l hst D dA h0 aco ali acu a1 a2 apd asc fo wn bn hwb kf ca hkf sb tm ta fs ap na ra xs g hv hg cz kd k hk
  · exact m_tryCode_5 l hst D dA h0 aco ali acu a1 a2 apd asc fo wn bn hwb kf ca hkf sb tm ta fs ap na ra xs g hv hg cz kd k hk
set_option maxHeartbeats 4000000 in
/-- close -/
theorem m_close (l : Launch) (hst : l.stackTraces = false) (D : va_G) (dA : Nat → ClassId) (h0 aco ali acu a1 a2 apd asc fo wn bn : Nat) (hwb : wn ≤ 1000 ∧ bn ≤ 1000) (sb ap na ra rb : Nat) (ta pm cz kd rm9 ra9 zc zk : Int32) (bs : List Bool) (fs fr : Nat → Int32) (hs : RowIs bs fs) (h4 : bs.length ≤ 400) : pc_I l yX1_close cX1_close 4 .int (pc_rm 2 0 0) D dA [.ref h0, .ref ap, .int (zc), .int (zk)] [(h0, .inr (9, [.ref aco, .ref ali, .ref acu, .ref a1, .ref a2, .ref apd, .ref asc, .ref fo, .int (zI (((wn : Nat) : Int))), .int (zI (((bn : Nat) : Int)))])), (asc, .inr (0, [.ref sb, .int (zI (((bs.length : Nat) : Int))), .int (ta)])), (sb, .inl (dA 0, 400, .inl fs)), (ap, .inr (7, [.ref na, .ref ra, .int (pm), .int (cz), .int (kd)])), (ra, .inr (0, [.ref rb, .int (rm9), .int (ra9)])), (rb, .inl (dA 0, 400, .inl fr))] (fun r (f' : Nat → Int32) => r = zI ((bs.length : Nat) : Int) ∧ RowIs bs f') (fun f' => [(h0, .inr (9, [.ref aco, .ref ali, .ref acu, .ref a1, .ref a2, .ref apd, .ref asc, .ref fo, .int (zI (((wn + 1 : Nat) : Int))), .int (zI (((bn : Nat) : Int)))])), (asc, .inr (0, [.ref sb, .int (zI (((bs.length : Nat) : Int))), .int (ta)])), (sb, .inl (dA 0, 400, .inl fs)), (ap, .inr (7, [.ref na, .ref ra, .int (pm), .int (zc), .int (zk)])), (ra, .inr (0, [.ref rb, .int (zI (((bs.length : Nat) : Int))), .int (zI 0)])), (rb, .inl (dA 0, 400, .inl f'))]) := by
  refine st_i hst (by decide) RX1 rfl (Nat.le_of_ble_eq_true rfl) ?_
  intro pg ev s mt args below meth cd R A Q hR X exit H locs hw ls hl
  subst hR
  have hl : lv_has ls 4 [(0, .ref h0), (1, .ref ap), (2, .int (zc)), (3, .int (zk))] := hl
  refine lv_aload_n X.x X.b dX1_close_0 rfl (lv_at hl 1 rfl) ?_
  refine z_get X hw in_X11 3 rfl rfl 1 (by decide) q163 rfl rfl dX1_close_1 ?_
  refine lv_aload_n X.x X.b dX1_close_4 rfl (lv_at hl 0 rfl) ?_
  refine z_get X hw in_X1 0 rfl rfl 6 (by decide) q188 rfl rfl dX1_close_5 ?_
  refine cv_v (c1 := 0) (s1 := 0) X hw [4, 5, 1, 2] [0, 3] (wr := [(h0, .inr (9, [.ref aco, .ref ali, .ref acu, .ref a1, .ref a2, .ref apd, .ref asc, .ref fo, .int (zI (((wn : Nat) : Int))), .int (zI (((bn : Nat) : Int)))])), (ap, .inr (7, [.ref na, .ref ra, .int (pm), .int (cz), .int (kd)]))]) (va_runV (As := [.ref asc]) (rest := []) X.fix (m_Row_become l hst D dA ra rb asc sb (rm9) (ra9) (ta) bs fr fs hs h4 _) (cwV 1 X.t (lw_V q445 q446 q447 q46 q448) rfl rfl rfl (by decide +kernel) (pc_rmle (by decide) (by decide))) (pc_preV X hw [4, 5, 1, 2] rfl rfl 0 4 rfl rfl rfl) rfl rfl hl.1 rfl (lv_room (Nat.le_of_ble_eq_true rfl)) dX1_close_8 ⟨Nat.le_of_ble_eq_true rfl, Nat.le_of_ble_eq_true rfl⟩) rfl rfl rfl rfl (fun _ _ => pc_c00) (fun u_2 H locs hq hw => ?_)
  have hw : pc_S D A s.heap [(h0, .inr (9, [.ref aco, .ref ali, .ref acu, .ref a1, .ref a2, .ref apd, .ref asc, .ref fo, .int (zI (((wn : Nat) : Int))), .int (zI (((bn : Nat) : Int)))])), (ap, .inr (7, [.ref na, .ref ra, .int (pm), .int (cz), .int (kd)])), (ra, .inr (0, [.ref rb, .int (zI (((bs.length : Nat) : Int))), .int (zI 0)])), (rb, .inl (dA 0, 400, .inl u_2)), (asc, .inr (0, [.ref sb, .int (zI (((bs.length : Nat) : Int))), .int (ta)])), (sb, .inl (dA 0, 400, .inl fs))] H locs := hw
  have hu_2 := hq
  refine lv_aload_n X.x X.b dX1_close_11 rfl (lv_at hl 1 rfl) ?_
  refine lv_iload_n X.x X.b dX1_close_12 rfl (lv_at hl 2 rfl) ?_
  refine z_put X hw in_X11 tyX11 tyX11_ok nmX11 1 rfl rfl 3 (by decide) q168 rfl rfl rfl rfl (Nat.le_of_ble_eq_true rfl) dX1_close_13 (fun H locs hw => ?_)
  have hw : pc_S D A s.heap [(h0, .inr (9, [.ref aco, .ref ali, .ref acu, .ref a1, .ref a2, .ref apd, .ref asc, .ref fo, .int (zI (((wn : Nat) : Int))), .int (zI (((bn : Nat) : Int)))])), (ap, .inr (7, [.ref na, .ref ra, .int (pm), .int (zc), .int (kd)])), (ra, .inr (0, [.ref rb, .int (zI (((bs.length : Nat) : Int))), .int (zI 0)])), (rb, .inl (dA 0, 400, .inl u_2)), (asc, .inr (0, [.ref sb, .int (zI (((bs.length : Nat) : Int))), .int (ta)])), (sb, .inl (dA 0, 400, .inl fs))] H locs := hw
  refine lv_aload_n X.x X.b dX1_close_16 rfl (lv_at hl 1 rfl) ?_
  refine lv_iload_n X.x X.b dX1_close_17 rfl (lv_at hl 3 rfl) ?_
  refine z_put X hw in_X11 tyX11 tyX11_ok nmX11 1 rfl rfl 4 (by decide) q170 rfl rfl rfl rfl (Nat.le_of_ble_eq_true rfl) dX1_close_18 (fun H locs hw => ?_)
  have hw : pc_S D A s.heap [(h0, .inr (9, [.ref aco, .ref ali, .ref acu, .ref a1, .ref a2, .ref apd, .ref asc, .ref fo, .int (zI (((wn : Nat) : Int))), .int (zI (((bn : Nat) : Int)))])), (ap, .inr (7, [.ref na, .ref ra, .int (pm), .int (zc), .int (zk)])), (ra, .inr (0, [.ref rb, .int (zI (((bs.length : Nat) : Int))), .int (zI 0)])), (rb, .inl (dA 0, 400, .inl u_2)), (asc, .inr (0, [.ref sb, .int (zI (((bs.length : Nat) : Int))), .int (ta)])), (sb, .inl (dA 0, 400, .inl fs))] H locs := hw
  refine lv_aload_n X.x X.b dX1_close_21 rfl (lv_at hl 0 rfl) ?_
  refine lv_dup X.x X.b dX1_close_22 rfl ?_
  refine z_get X hw in_X1 0 rfl rfl 8 (by decide) q190 rfl rfl dX1_close_23 ?_
  refine z_iconst X dX1_close_26 ?_
  refine z_iadd X dX1_close_27 ?_
  refine top_i (y := zI ((wn + 1 : Nat) : Int)) (congrArg zI (by omega)) ?_
  refine z_put X hw in_X1 tyX1 tyX1_ok nmX1 0 rfl rfl 8 (by decide) q190 rfl rfl rfl rfl (Nat.le_of_ble_eq_true rfl) dX1_close_28 (fun H locs hw => ?_)
  have hw : pc_S D A s.heap [(h0, .inr (9, [.ref aco, .ref ali, .ref acu, .ref a1, .ref a2, .ref apd, .ref asc, .ref fo, .int (zI (((wn + 1 : Nat) : Int))), .int (zI (((bn : Nat) : Int)))])), (ap, .inr (7, [.ref na, .ref ra, .int (pm), .int (zc), .int (zk)])), (ra, .inr (0, [.ref rb, .int (zI (((bs.length : Nat) : Int))), .int (zI 0)])), (rb, .inl (dA 0, 400, .inl u_2)), (asc, .inr (0, [.ref sb, .int (zI (((bs.length : Nat) : Int))), .int (ta)])), (sb, .inl (dA 0, 400, .inl fs))] H locs := hw
  refine lv_aload_n X.x X.b dX1_close_31 rfl (lv_at hl 1 rfl) ?_
  refine z_get X hw in_X11 1 rfl rfl 1 (by decide) q163 rfl rfl dX1_close_32 ?_
  refine z_get X hw in_X10 2 rfl rfl 1 (by decide) q142 rfl rfl dX1_close_35 ?_
  have hw : pc_S D A s.heap [(h0, .inr (9, [.ref aco, .ref ali, .ref acu, .ref a1, .ref a2, .ref apd, .ref asc, .ref fo, .int (zI (((wn + 1 : Nat) : Int))), .int (zI (((bn : Nat) : Int)))])), (asc, .inr (0, [.ref sb, .int (zI (((bs.length : Nat) : Int))), .int (ta)])), (sb, .inl (dA 0, 400, .inl fs)), (ap, .inr (7, [.ref na, .ref ra, .int (pm), .int (zc), .int (zk)])), (ra, .inr (0, [.ref rb, .int (zI (((bs.length : Nat) : Int))), .int (zI 0)])), (rb, .inl (dA 0, 400, .inl u_2))] H locs := hw.sub [0, 4, 5, 1, 2, 3] rfl rfl
  exact exit u_2 dX1_close_38 rfl ⟨rfl, hu_2⟩ hw (Nat.zero_le _) (Nat.zero_le _)
set_option maxHeartbeats 4000000 in
/-- reads, code 0 -/
theorem m_reads_0 (l : Launch) (hst : l.stackTraces = false) (D : va_G) (dA : Nat → ClassId) (h0 aco ali acu a1 a2 apd asc fo wn bn : Nat) (hwb : wn ≤ 1000 ∧ bn ≤ 1000) (kf : Nat → Option Nat) (ca : Nat → Nat) (hkf : ∀ c, c < 6 → kf c = some (ca c)) (sb : Nat) (tm ta : Int32) (fs : Nat → Int32) (pb : Nat) (pa : Int32) (bs : List Bool) (fp g : Nat → Int32) (hf : RowIs bs fp) (h4 : bs.length ≤ 400) (k n : Nat) (hk : k ≤ 7) (hn : n ≤ 24) : px_I (SX := Unit) l yX1_reads (wsW_ yX1_reads cX1_reads 5 (some .boolean) [(8, 29, 32, 7)]) (pc_rm 12 1 6) D dA [.ref h0, .int (zI (((0 : Nat) : Int))), .int (zI (((k : Nat) : Int))), .int (zI (((n : Nat) : Int)))] [(h0, .inr (9, [.ref aco, .ref ali, .ref acu, .ref a1, .ref a2, .ref apd, .ref asc, .ref fo, .int (zI (((wn : Nat) : Int))), .int (zI (((bn : Nat) : Int)))])), (aco, .inl (dA 5, 6, .inr (.inr (.inr (.inr kf))))), ((ca 0), .inr (1, [])), ((ca 1), .inr (2, [])), ((ca 2), .inr (3, [])), ((ca 3), .inr (4, [])), ((ca 4), .inr (5, [])), ((ca 5), .inr (6, [])), (apd, .inr (0, [.ref pb, .int (zI (((bs.length : Nat) : Int))), .int (pa)])), (pb, .inl (dA 0, 400, .inl fp)), (fo, .inl (dA 1, 24, .inl g)), (asc, .inr (0, [.ref sb, .int (tm), .int (ta)])), (sb, .inl (dA 0, 400, .inl fs))] (fun r (u : (Nat → Int32) × Int32 × (Nat → Int32) × Int32 × Int32) => r = zI ((b2n (goodB 0 k bs n) : Nat) : Int) ∧ ((goodB 0 k bs n) = true → ∃ ys, dec 0 k bs n = some ys ∧ ArrIs ys u.1 ∧ RowIs bs u.2.2.1 ∧ u.2.2.2.1 = zI ((bs.length : Nat) : Int))) (fun u : (Nat → Int32) × Int32 × (Nat → Int32) × Int32 × Int32 => [(h0, .inr (9, [.ref aco, .ref ali, .ref acu, .ref a1, .ref a2, .ref apd, .ref asc, .ref fo, .int (zI (((wn : Nat) : Int))), .int (zI (((bn : Nat) : Int)))])), (aco, .inl (dA 5, 6, .inr (.inr (.inr (.inr kf))))), ((ca 0), .inr (1, [])), ((ca 1), .inr (2, [])), ((ca 2), .inr (3, [])), ((ca 3), .inr (4, [])), ((ca 4), .inr (5, [])), ((ca 5), .inr (6, [])), (apd, .inr (0, [.ref pb, .int (zI (((bs.length : Nat) : Int))), .int (u.2.1)])), (pb, .inl (dA 0, 400, .inl fp)), (fo, .inl (dA 1, 24, .inl u.1)), (asc, .inr (0, [.ref sb, .int (u.2.2.2.1), .int (u.2.2.2.2)])), (sb, .inl (dA 0, 400, .inl u.2.2.1))]) (fun _ _ => False) (fun _ => []) := by
  refine sxh_i hst (by decide) RX1 rfl (Nat.le_of_ble_eq_true rfl) ?_
  intro pg ev s mt args below meth cd R A Q hR X htab exit H locs hw ls hl
  subst hR
  have hl : lv_has ls 5 [(0, .ref h0), (1, .int (zI (((0 : Nat) : Int)))), (2, .int (zI (((k : Nat) : Int)))), (3, .int (zI (((n : Nat) : Int))))] := hl
  refine lv_aload_n X.x X.b dX1_reads_0 rfl (lv_at hl 0 rfl) ?_
  refine z_get X hw in_X1 0 rfl rfl 5 (by decide) q187 rfl rfl dX1_reads_1 ?_
  refine z_iconst X dX1_reads_4 ?_
  refine z_put X hw in_X10 tyX10 tyX10_ok nmX10 8 rfl rfl 2 (by decide) q144 rfl rfl rfl rfl (Nat.le_of_ble_eq_true rfl) dX1_reads_5 (fun H locs hw => ?_)
  have hw : pc_S D A s.heap [(h0, .inr (9, [.ref aco, .ref ali, .ref acu, .ref a1, .ref a2, .ref apd, .ref asc, .ref fo, .int (zI (((wn : Nat) : Int))), .int (zI (((bn : Nat) : Int)))])), (aco, .inl (dA 5, 6, .inr (.inr (.inr (.inr kf))))), ((ca 0), .inr (1, [])), ((ca 1), .inr (2, [])), ((ca 2), .inr (3, [])), ((ca 3), .inr (4, [])), ((ca 4), .inr (5, [])), ((ca 5), .inr (6, [])), (apd, .inr (0, [.ref pb, .int (zI (((bs.length : Nat) : Int))), .int (zI 0)])), (pb, .inl (dA 0, 400, .inl fp)), (fo, .inl (dA 1, 24, .inl g)), (asc, .inr (0, [.ref sb, .int (tm), .int (ta)])), (sb, .inl (dA 0, 400, .inl fs))] H locs := hw
  refine lv_aload_n X.x X.b dX1_reads_8 rfl (lv_at hl 0 rfl) ?_
  refine z_get X hw in_X1 0 rfl rfl 0 (by decide) q182 rfl rfl dX1_reads_9 ?_
  refine lv_iload_n X.x X.b dX1_reads_12 rfl (lv_at hl 1 rfl) ?_
  refine z_aald X hw 1 5 0 rfl rfl (by decide) (by omega) (v := .ref (ca 0)) (congrArg va_rf (hkf 0 (by decide))) dX1_reads_13 ?_
  refine lv_aload_n X.x X.b dX1_reads_14 rfl (lv_at hl 0 rfl) ?_
  refine z_get X hw in_X1 0 rfl rfl 5 (by decide) q187 rfl rfl dX1_reads_15 ?_
  refine lv_aload_n X.x X.b dX1_reads_18 rfl (lv_at hl 0 rfl) ?_
  refine z_get X hw in_X1 0 rfl rfl 7 (by decide) q189 rfl rfl dX1_reads_19 ?_
  refine lv_iload_n X.x X.b dX1_reads_22 rfl (lv_at hl 3 rfl) ?_
  refine lv_iload_n X.x X.b dX1_reads_23 rfl (lv_at hl 2 rfl) ?_
  obtain ⟨t_1, ht_1⟩ : ∃ q : Bool, q = ((decP 0 k bs n).isNone) := ⟨_, rfl⟩
  refine cx_v5 (c1 := 0) (s1 := 0) X hw [2, 8, 9, 10] [0, 1, 3, 4, 5, 6, 7, 11, 12] (wr := [(h0, .inr (9, [.ref aco, .ref ali, .ref acu, .ref a1, .ref a2, .ref apd, .ref asc, .ref fo, .int (zI (((wn : Nat) : Int))), .int (zI (((bn : Nat) : Int)))])), (aco, .inl (dA 5, 6, .inr (.inr (.inr (.inr kf))))), ((ca 1), .inr (2, [])), ((ca 2), .inr (3, [])), ((ca 3), .inr (4, [])), ((ca 4), .inr (5, [])), ((ca 5), .inr (6, [])), (asc, .inr (0, [.ref sb, .int (tm), .int (ta)])), (sb, .inl (dA 0, 400, .inl fs))]) (vx_runF (As := [.ref apd, .ref fo, .int (zI (((n : Nat) : Int))), .int (zI (((k : Nat) : Int)))]) (rest := []) (pc_at X 1 rfl) X.fix (m_dec_0 l hst D dA (ca 0) apd pb fo bs k n fp g hf h4 hk hn t_1 ht_1 _) (va_cwF (x := (mn_ "PostingCodes$Code" "decode" "(LPostingCodes$Row;[SII)V")) (C := RX3) 4 X.t (lw_F q516 q519 q521 q38 q523) rfl rfl rfl (pc_nf X.N 6 rfl) (by decide +kernel) (pc_rmle (by decide) (by decide))) (pc_preV X hw [2, 8, 9, 10] rfl rfl 1 2 rfl rfl rfl) rfl rfl hl.1 rfl (lv_room (Nat.le_of_ble_eq_true rfl)) dX1_reads_24 pc_le1) rfl rfl rfl rfl (fun E ce q9 ux_4 H locs hq hw h1 h2 h3 => ?_) (fun u hq => pc_c0 hq.1) (fun u_3 H locs hq hw => ?_)
  · skip
    have hw : pc_S D A s.heap [(h0, .inr (9, [.ref aco, .ref ali, .ref acu, .ref a1, .ref a2, .ref apd, .ref asc, .ref fo, .int (zI (((wn : Nat) : Int))), .int (zI (((bn : Nat) : Int)))])), (aco, .inl (dA 5, 6, .inr (.inr (.inr (.inr kf))))), ((ca 1), .inr (2, [])), ((ca 2), .inr (3, [])), ((ca 3), .inr (4, [])), ((ca 4), .inr (5, [])), ((ca 5), .inr (6, [])), (asc, .inr (0, [.ref sb, .int (tm), .int (ta)])), (sb, .inl (dA 0, 400, .inl fs)), ((ca 0), .inr (1, [])), (apd, .inr (0, [.ref pb, .int (zI (((bs.length : Nat) : Int))), .int (ux_4.2)])), (pb, .inl (dA 0, 400, .inl fp)), (fo, .inl (dA 1, 24, .inl ux_4.1))] H locs := hw
    obtain ⟨rfl, htt⟩ := hq
    refine pc_catch (hh := [(8, 29, 32, 7)]) (pre := []) (q := (8, 29, 32, 7)) (suf := []) (E := xIAE) (nm := xIAE) X htab rfl (by decide) (by decide) q312 (by decide) (fun _ h => nomatch h) h1 h2 h3 ?_
    refine lv_astore (lv' := [(4, .ref q9), (0, .ref h0), (1, .int (zI (((0 : Nat) : Int)))), (2, .int (zI (((k : Nat) : Int)))), (3, .int (zI (((n : Nat) : Int))))]) X.x X.b dX1_reads_32 hl (by decide) rfl (fun ls hl => ?_)
    refine z_iconst X dX1_reads_34 ?_
    have hw : pc_S D A s.heap [(h0, .inr (9, [.ref aco, .ref ali, .ref acu, .ref a1, .ref a2, .ref apd, .ref asc, .ref fo, .int (zI (((wn : Nat) : Int))), .int (zI (((bn : Nat) : Int)))])), (aco, .inl (dA 5, 6, .inr (.inr (.inr (.inr kf))))), ((ca 0), .inr (1, [])), ((ca 1), .inr (2, [])), ((ca 2), .inr (3, [])), ((ca 3), .inr (4, [])), ((ca 4), .inr (5, [])), ((ca 5), .inr (6, [])), (apd, .inr (0, [.ref pb, .int (zI (((bs.length : Nat) : Int))), .int (ux_4.2)])), (pb, .inl (dA 0, 400, .inl fp)), (fo, .inl (dA 1, 24, .inl ux_4.1)), (asc, .inr (0, [.ref sb, .int (tm), .int (ta)])), (sb, .inl (dA 0, 400, .inl fs))] H locs := hw.sub [0, 1, 9, 2, 3, 4, 5, 6, 10, 11, 12, 7, 8] rfl rfl
    have hno : dec 0 k bs n = none := by
      show Option.map _ _ = _
      rw [ht_1] at htt
      rw [Option.isNone_iff_eq_none.mp htt]; rfl
    exact exit (ux_4.1, ux_4.2, fs, tm, ta) dX1_reads_35 (by decide) ⟨by rw [goodB_none hno]; rfl, fun h => by rw [goodB_none hno] at h; cases h⟩ hw pc_le1.1 pc_le1.2
  · skip
    obtain ⟨fd, ad⟩ := u_3
    have hw : pc_S D A s.heap [(h0, .inr (9, [.ref aco, .ref ali, .ref acu, .ref a1, .ref a2, .ref apd, .ref asc, .ref fo, .int (zI (((wn : Nat) : Int))), .int (zI (((bn : Nat) : Int)))])), (aco, .inl (dA 5, 6, .inr (.inr (.inr (.inr kf))))), ((ca 1), .inr (2, [])), ((ca 2), .inr (3, [])), ((ca 3), .inr (4, [])), ((ca 4), .inr (5, [])), ((ca 5), .inr (6, [])), (asc, .inr (0, [.ref sb, .int (tm), .int (ta)])), (sb, .inl (dA 0, 400, .inl fs)), ((ca 0), .inr (1, [])), (apd, .inr (0, [.ref pb, .int (zI (((bs.length : Nat) : Int))), .int (ad)])), (pb, .inl (dA 0, 400, .inl fp)), (fo, .inl (dA 1, 24, .inl fd))] H locs := hw
    obtain ⟨hq, ys, qq, hd, hfa⟩ := hq
    have hdec : dec 0 k bs n = some ys := by
      show Option.map _ _ = _
      rw [hd]; rfl
    dsimp only at hfa
    obtain ⟨hyl, hys⟩ := dec_spec hn hdec
    subst hyl
    refine lv_goto (tgt := 36) X.x X.b dX1_reads_29 (by decide) ?_
    refine z_iconst X dX1_reads_36 ?_
    refine lv_istore (lv' := [(4, .int (zI 1)), (0, .ref h0), (1, .int (zI (((0 : Nat) : Int)))), (2, .int (zI (((k : Nat) : Int)))), (3, .int (zI (((ys.length : Nat) : Int))))]) X.x X.b dX1_reads_37 hl (by decide) rfl (fun ls hl => ?_)
    have B39 : ∀ (NN : Nat) (i : Nat) (hi1 : 1 ≤ i) (hi2 : i ≤ ys.length ∨ i = 1) (hinc : ∀ j, j + 1 < i → ys.getD j 0 < ys.getD (j + 1) 0) (hNN : 30 - i < NN) (H : Heap) (locs : List Loc), pc_S D A s.heap [(h0, .inr (9, [.ref aco, .ref ali, .ref acu, .ref a1, .ref a2, .ref apd, .ref asc, .ref fo, .int (zI (((wn : Nat) : Int))), .int (zI (((bn : Nat) : Int)))])), (aco, .inl (dA 5, 6, .inr (.inr (.inr (.inr kf))))), ((ca 0), .inr (1, [])), ((ca 1), .inr (2, [])), ((ca 2), .inr (3, [])), ((ca 3), .inr (4, [])), ((ca 4), .inr (5, [])), ((ca 5), .inr (6, [])), (apd, .inr (0, [.ref pb, .int (zI (((bs.length : Nat) : Int))), .int (ad)])), (pb, .inl (dA 0, 400, .inl fp)), (fo, .inl (dA 1, 24, .inl fd)), (asc, .inr (0, [.ref sb, .int (tm), .int (ta)])), (sb, .inl (dA 0, 400, .inl fs))] H locs → ∀ ls : Array Slot, lv_has ls 5 [(0, .ref h0), (1, .int (zI (((0 : Nat) : Int)))), (2, .int (zI (((k : Nat) : Int)))), (3, .int (zI (((ys.length : Nat) : Int)))), (4, .int (zI (((i : Nat) : Int))))] → W pg l ev (pc_rm 12 1 6) s mt args below meth cd H locs 0 0 Q (F0 mt 39 ls []) := by
      intro NN
      induction NN with
      | zero => intro i hi1 hi2 hinc hNN; exact absurd hNN (Nat.not_lt_zero _)
      | succ NN ih39 =>
        intro i hi1 hi2 hinc hNN H locs hw ls hl
        refine lv_iload X.x X.b dX1_reads_39 (lv_at hl 4 rfl) ?_
        refine lv_iload_n X.x X.b dX1_reads_41 rfl (lv_at hl 3 rfl) ?_
        refine z_icmp_ge (tgt := 72) X dX1_reads_42 (by decide) (by omega) (by omega) (fun c_5 => ?_) (fun c_5 => ?_)
        · skip
          have hib : incB ys = true := incB_iff.mpr (fun j hj => hinc j (by omega))
          have hvy := valid_of hn hys hib
          have hel := enc_len (c := 0) hvy hk
          refine lv_aload_n X.x X.b dX1_reads_72 rfl (lv_at hl 0 rfl) ?_
          refine z_get X hw in_X1 0 rfl rfl 6 (by decide) q188 rfl rfl dX1_reads_73 ?_
          refine cv_v (c1 := 0) (s1 := 0) X hw [11] [0, 1, 2, 3, 4, 5, 6, 7, 8, 9, 10, 12] (wr := [(h0, .inr (9, [.ref aco, .ref ali, .ref acu, .ref a1, .ref a2, .ref apd, .ref asc, .ref fo, .int (zI (((wn : Nat) : Int))), .int (zI (((bn : Nat) : Int)))])), (aco, .inl (dA 5, 6, .inr (.inr (.inr (.inr kf))))), ((ca 0), .inr (1, [])), ((ca 1), .inr (2, [])), ((ca 2), .inr (3, [])), ((ca 3), .inr (4, [])), ((ca 4), .inr (5, [])), ((ca 5), .inr (6, [])), (apd, .inr (0, [.ref pb, .int (zI (((bs.length : Nat) : Int))), .int (ad)])), (pb, .inl (dA 0, 400, .inl fp)), (fo, .inl (dA 1, 24, .inl fd)), (sb, .inl (dA 0, 400, .inl fs))]) (va_runV (As := []) (rest := []) X.fix (m_Row_begin l hst D dA asc sb (tm) (ta) _) (cwV 0 X.t (lw_V q359 q360 q361 q46 q362) rfl rfl rfl (by decide +kernel) (pc_rmle (by decide) (by decide))) (pc_preV X hw [11] rfl rfl 0 11 rfl rfl rfl) rfl rfl hl.1 rfl (lv_room (Nat.le_of_ble_eq_true rfl)) dX1_reads_76 ⟨Nat.le_of_ble_eq_true rfl, Nat.le_of_ble_eq_true rfl⟩) rfl rfl rfl rfl (fun _ _ => pc_c00) (fun u_7 H locs hq hw => ?_)
          have hw : pc_S D A s.heap [(h0, .inr (9, [.ref aco, .ref ali, .ref acu, .ref a1, .ref a2, .ref apd, .ref asc, .ref fo, .int (zI (((wn : Nat) : Int))), .int (zI (((bn : Nat) : Int)))])), (aco, .inl (dA 5, 6, .inr (.inr (.inr (.inr kf))))), ((ca 0), .inr (1, [])), ((ca 1), .inr (2, [])), ((ca 2), .inr (3, [])), ((ca 3), .inr (4, [])), ((ca 4), .inr (5, [])), ((ca 5), .inr (6, [])), (apd, .inr (0, [.ref pb, .int (zI (((bs.length : Nat) : Int))), .int (ad)])), (pb, .inl (dA 0, 400, .inl fp)), (fo, .inl (dA 1, 24, .inl fd)), (sb, .inl (dA 0, 400, .inl fs)), (asc, .inr (0, [.ref sb, .int (zI 0), .int (zI 0)]))] H locs := hw
          refine lv_aload_n X.x X.b dX1_reads_79 rfl (lv_at hl 0 rfl) ?_
          refine z_get X hw in_X1 0 rfl rfl 0 (by decide) q182 rfl rfl dX1_reads_80 ?_
          refine lv_iload_n X.x X.b dX1_reads_83 rfl (lv_at hl 1 rfl) ?_
          refine z_aald X hw 1 5 0 rfl rfl (by decide) (by omega) (v := .ref (ca 0)) (congrArg va_rf (hkf 0 (by decide))) dX1_reads_84 ?_
          refine lv_aload_n X.x X.b dX1_reads_85 rfl (lv_at hl 0 rfl) ?_
          refine z_get X hw in_X1 0 rfl rfl 6 (by decide) q188 rfl rfl dX1_reads_86 ?_
          refine lv_aload_n X.x X.b dX1_reads_89 rfl (lv_at hl 0 rfl) ?_
          refine z_get X hw in_X1 0 rfl rfl 7 (by decide) q189 rfl rfl dX1_reads_90 ?_
          refine lv_iload_n X.x X.b dX1_reads_93 rfl (lv_at hl 3 rfl) ?_
          refine lv_iload_n X.x X.b dX1_reads_94 rfl (lv_at hl 2 rfl) ?_
          refine cv_v5 (c1 := 0) (s1 := 0) X hw [2, 12, 11, 10] [0, 1, 3, 4, 5, 6, 7, 8, 9] (wr := [(h0, .inr (9, [.ref aco, .ref ali, .ref acu, .ref a1, .ref a2, .ref apd, .ref asc, .ref fo, .int (zI (((wn : Nat) : Int))), .int (zI (((bn : Nat) : Int)))])), (aco, .inl (dA 5, 6, .inr (.inr (.inr (.inr kf))))), ((ca 1), .inr (2, [])), ((ca 2), .inr (3, [])), ((ca 3), .inr (4, [])), ((ca 4), .inr (5, [])), ((ca 5), .inr (6, [])), (apd, .inr (0, [.ref pb, .int (zI (((bs.length : Nat) : Int))), .int (ad)])), (pb, .inl (dA 0, 400, .inl fp))]) (va_runF (As := [.ref asc, .ref fo, .int (zI (((ys.length : Nat) : Int))), .int (zI (((k : Nat) : Int)))]) (rest := []) (pc_at X 1 rfl) X.fix (m_enc_0 l hst D dA (ca 0) asc sb fo (zI 0) ys k fs fd hvy hfa hk _) (va_cwF (x := (mn_ "PostingCodes$Code" "encode" "(LPostingCodes$Row;[SII)V")) (C := RX3) 4 X.t (lw_F q364 q368 q370 q38 q372) rfl rfl rfl (pc_nf X.N 0 rfl) (by decide +kernel) (pc_rmle (by decide) (by decide))) (pc_preV X hw [2, 12, 11, 10] rfl rfl 1 2 rfl rfl rfl) rfl rfl hl.1 rfl (lv_room (Nat.le_of_ble_eq_true rfl)) dX1_reads_95 ⟨Nat.le_of_ble_eq_true rfl, Nat.le_of_ble_eq_true rfl⟩) rfl rfl rfl rfl (fun _ _ => pc_c00) (fun u_9 H locs hq hw => ?_)
          have hw : pc_S D A s.heap [(h0, .inr (9, [.ref aco, .ref ali, .ref acu, .ref a1, .ref a2, .ref apd, .ref asc, .ref fo, .int (zI (((wn : Nat) : Int))), .int (zI (((bn : Nat) : Int)))])), (aco, .inl (dA 5, 6, .inr (.inr (.inr (.inr kf))))), ((ca 1), .inr (2, [])), ((ca 2), .inr (3, [])), ((ca 3), .inr (4, [])), ((ca 4), .inr (5, [])), ((ca 5), .inr (6, [])), (apd, .inr (0, [.ref pb, .int (zI (((bs.length : Nat) : Int))), .int (ad)])), (pb, .inl (dA 0, 400, .inl fp)), ((ca 0), .inr (1, [])), (asc, .inr (0, [.ref sb, .int (zI ((((enc 0 k ys).length : Nat) : Int))), .int (zI 0)])), (sb, .inl (dA 0, 400, .inl u_9)), (fo, .inl (dA 1, 24, .inl fd))] H locs := hw
          have he_0 : RowIs (enc 0 k ys) u_9 := hq
          refine lv_aload_n X.x X.b dX1_reads_100 rfl (lv_at hl 0 rfl) ?_
          refine z_get X hw in_X1 0 rfl rfl 6 (by decide) q188 rfl rfl dX1_reads_101 ?_
          refine lv_aload_n X.x X.b dX1_reads_104 rfl (lv_at hl 0 rfl) ?_
          refine z_get X hw in_X1 0 rfl rfl 5 (by decide) q187 rfl rfl dX1_reads_105 ?_
          refine cv_i (c1 := 0) (s1 := 0) X hw [10, 11, 7, 8] [0, 1, 2, 3, 4, 5, 6, 9, 12] (wr := [(h0, .inr (9, [.ref aco, .ref ali, .ref acu, .ref a1, .ref a2, .ref apd, .ref asc, .ref fo, .int (zI (((wn : Nat) : Int))), .int (zI (((bn : Nat) : Int)))])), (aco, .inl (dA 5, 6, .inr (.inr (.inr (.inr kf))))), ((ca 1), .inr (2, [])), ((ca 2), .inr (3, [])), ((ca 3), .inr (4, [])), ((ca 4), .inr (5, [])), ((ca 5), .inr (6, [])), ((ca 0), .inr (1, [])), (fo, .inl (dA 1, 24, .inl fd))]) (va_runV (As := [.ref apd]) (rest := []) X.fix (m_Row_same l hst D dA asc sb apd pb (zI 0) (ad) (enc 0 k ys) bs u_9 fp he_0 hf h4 (by omega) _) (cwV 1 X.t (lw_V q584 q585 q586 q46 q587) rfl rfl rfl (by decide +kernel) (pc_rmle (by decide) (by decide))) (pc_preV X hw [10, 11, 7, 8] rfl rfl 0 10 rfl rfl rfl) rfl rfl hl.1 rfl (lv_room (Nat.le_of_ble_eq_true rfl)) dX1_reads_108 ⟨Nat.le_of_ble_eq_true rfl, Nat.le_of_ble_eq_true rfl⟩) rfl rfl rfl rfl (fun _ _ _ => pc_c00) (fun r_10 u_11 H locs hq hw => ?_)
          have hw : pc_S D A s.heap [(h0, .inr (9, [.ref aco, .ref ali, .ref acu, .ref a1, .ref a2, .ref apd, .ref asc, .ref fo, .int (zI (((wn : Nat) : Int))), .int (zI (((bn : Nat) : Int)))])), (aco, .inl (dA 5, 6, .inr (.inr (.inr (.inr kf))))), ((ca 1), .inr (2, [])), ((ca 2), .inr (3, [])), ((ca 3), .inr (4, [])), ((ca 4), .inr (5, [])), ((ca 5), .inr (6, [])), ((ca 0), .inr (1, [])), (fo, .inl (dA 1, 24, .inl fd)), (asc, .inr (0, [.ref sb, .int (zI ((((enc 0 k ys).length : Nat) : Int))), .int (zI 0)])), (sb, .inl (dA 0, 400, .inl u_9)), (apd, .inr (0, [.ref pb, .int (zI (((bs.length : Nat) : Int))), .int (ad)])), (pb, .inl (dA 0, 400, .inl fp))] H locs := hw
          subst hq
          have hw : pc_S D A s.heap [(h0, .inr (9, [.ref aco, .ref ali, .ref acu, .ref a1, .ref a2, .ref apd, .ref asc, .ref fo, .int (zI (((wn : Nat) : Int))), .int (zI (((bn : Nat) : Int)))])), (aco, .inl (dA 5, 6, .inr (.inr (.inr (.inr kf))))), ((ca 0), .inr (1, [])), ((ca 1), .inr (2, [])), ((ca 2), .inr (3, [])), ((ca 3), .inr (4, [])), ((ca 4), .inr (5, [])), ((ca 5), .inr (6, [])), (apd, .inr (0, [.ref pb, .int (zI (((bs.length : Nat) : Int))), .int (ad)])), (pb, .inl (dA 0, 400, .inl fp)), (fo, .inl (dA 1, 24, .inl fd)), (asc, .inr (0, [.ref sb, .int (zI ((((enc 0 k ys).length : Nat) : Int))), .int (zI 0)])), (sb, .inl (dA 0, 400, .inl u_9))] H locs := hw.sub [0, 1, 7, 2, 3, 4, 5, 6, 11, 12, 8, 9, 10] rfl rfl
          have hgb : goodB 0 k bs ys.length = decide (enc 0 k ys = bs) := by rw [goodB_some hdec, hib, Bool.true_and]
          rw [← hgb]
          exact exit (fd, ad, u_9, zI (((enc 0 k ys).length : Nat) : Int), zI 0) dX1_reads_111 (by cases goodB 0 k bs ys.length <;> decide) ⟨rfl, fun h => by
            rw [hgb] at h
            have h := of_decide_eq_true h
            exact ⟨ys, hdec, hfa, h ▸ he_0, by rw [h]⟩⟩ hw (Nat.zero_le _) (Nat.zero_le _)
        · skip
          refine lv_aload_n X.x X.b dX1_reads_45 rfl (lv_at hl 0 rfl) ?_
          refine z_get X hw in_X1 0 rfl rfl 7 (by decide) q189 rfl rfl dX1_reads_46 ?_
          refine lv_iload X.x X.b dX1_reads_49 (lv_at hl 4 rfl) ?_
          refine z_sald X hw 10 i rfl (by decide) (by omega) (v := zI ((ys.getD i 0 : Nat) : Int)) (hfa _ (by omega)) dX1_reads_51 ?_
          refine lv_aload_n X.x X.b dX1_reads_52 rfl (lv_at hl 0 rfl) ?_
          refine z_get X hw in_X1 0 rfl rfl 7 (by decide) q189 rfl rfl dX1_reads_53 ?_
          refine lv_iload X.x X.b dX1_reads_56 (lv_at hl 4 rfl) ?_
          refine z_iconst X dX1_reads_58 ?_
          refine z_isub X dX1_reads_59 ?_
          refine z_sald X hw 10 (i - 1) rfl (by decide) (by omega) (v := zI ((ys.getD (i - 1) 0 : Nat) : Int)) (hfa _ (by omega)) dX1_reads_60 ?_
          have hx8 := hys i (by omega)
          have hx9 := hys (i - 1) (by omega)
          refine z_icmp_gt (tgt := 66) X dX1_reads_61 (by decide) (by omega) (by omega) (fun c_12 => ?_) (fun c_12 => ?_)
          · skip
            refine z_iinc (lv' := [(4, .int (zI (((i : Nat) : Int) + 1))), (0, .ref h0), (1, .int (zI (((0 : Nat) : Int)))), (2, .int (zI (((k : Nat) : Int)))), (3, .int (zI (((ys.length : Nat) : Int))))]) X dX1_reads_66 hl (k0 := 4) rfl (by decide) rfl (fun ls hl => ?_)
            have hl : lv_has ls 5 [(4, .int (zI (((i + 1 : Nat) : Int)))), (0, .ref h0), (1, .int (zI (((0 : Nat) : Int)))), (2, .int (zI (((k : Nat) : Int)))), (3, .int (zI (((ys.length : Nat) : Int))))] := by rw [show (((i + 1 : Nat) : Int) : Int) = ((i : Nat) : Int) + 1 from by omega]; exact hl
            refine lv_goto (tgt := 39) X.x X.b dX1_reads_69 (by decide) ?_
            exact ih39  (i + 1) (by omega) (Or.inl (by omega)) (fun j h => by
                by_cases e : j + 1 = i
                · rw [e, show j = i - 1 from by omega]; omega
                · exact hinc j (by omega)) (by omega) H locs hw ls (lv_sub hl [1, 2, 3, 4, 0] rfl)
          · skip
            refine z_iconst X dX1_reads_64 ?_
            have hib : incB ys = false := by
              cases h : incB ys with
              | false => rfl
              | true =>
                have := incB_iff.mp h (i - 1) (by omega)
                rw [show i - 1 + 1 = i from by omega] at this
                omega
            have hgb : goodB 0 k bs ys.length = false := by rw [goodB_some hdec, hib]; rfl
            exact exit (fd, ad, fs, tm, ta) dX1_reads_65 (by decide) ⟨by rw [hgb]; rfl, fun h => by rw [hgb] at h; cases h⟩ hw (Nat.zero_le _) (Nat.zero_le _)
    exact B39 _ 1 (Nat.le_refl _) (Or.inr rfl) (fun j h => absurd h (by omega)) (Nat.lt_succ_self _) H locs (hw.sub [0, 1, 9, 2, 3, 4, 5, 6, 10, 11, 12, 7, 8] rfl rfl) ls (lv_sub hl [1, 2, 3, 4, 0] rfl)
set_option maxHeartbeats 4000000 in
/-- reads, code 1 -/
theorem m_reads_1 (l : Launch) (hst : l.stackTraces = false) (D : va_G) (dA : Nat → ClassId) (h0 aco ali acu a1 a2 apd asc fo wn bn : Nat) (hwb : wn ≤ 1000 ∧ bn ≤ 1000) (kf : Nat → Option Nat) (ca : Nat → Nat) (hkf : ∀ c, c < 6 → kf c = some (ca c)) (sb : Nat) (tm ta : Int32) (fs : Nat → Int32) (pb : Nat) (pa : Int32) (bs : List Bool) (fp g : Nat → Int32) (hf : RowIs bs fp) (h4 : bs.length ≤ 400) (k n : Nat) (hk : k ≤ 7) (hn : n ≤ 24) : px_I (SX := Unit) l yX1_reads (wsW_ yX1_reads cX1_reads 5 (some .boolean) [(8, 29, 32, 7)]) (pc_rm 12 1 6) D dA [.ref h0, .int (zI (((1 : Nat) : Int))), .int (zI (((k : Nat) : Int))), .int (zI (((n : Nat) : Int)))] [(h0, .inr (9, [.ref aco, .ref ali, .ref acu, .ref a1, .ref a2, .ref apd, .ref asc, .ref fo, .int (zI (((wn : Nat) : Int))), .int (zI (((bn : Nat) : Int)))])), (aco, .inl (dA 5, 6, .inr (.inr (.inr (.inr kf))))), ((ca 0), .inr (1, [])), ((ca 1), .inr (2, [])), ((ca 2), .inr (3, [])), ((ca 3), .inr (4, [])), ((ca 4), .inr (5, [])), ((ca 5), .inr (6, [])), (apd, .inr (0, [.ref pb, .int (zI (((bs.length : Nat) : Int))), .int (pa)])), (pb, .inl (dA 0, 400, .inl fp)), (fo, .inl (dA 1, 24, .inl g)), (asc, .inr (0, [.ref sb, .int (tm), .int (ta)])), (sb, .inl (dA 0, 400, .inl fs))] (fun r (u : (Nat → Int32) × Int32 × (Nat → Int32) × Int32 × Int32) => r = zI ((b2n (goodB 1 k bs n) : Nat) : Int) ∧ ((goodB 1 k bs n) = true → ∃ ys, dec 1 k bs n = some ys ∧ ArrIs ys u.1 ∧ RowIs bs u.2.2.1 ∧ u.2.2.2.1 = zI ((bs.length : Nat) : Int))) (fun u : (Nat → Int32) × Int32 × (Nat → Int32) × Int32 × Int32 => [(h0, .inr (9, [.ref aco, .ref ali, .ref acu, .ref a1, .ref a2, .ref apd, .ref asc, .ref fo, .int (zI (((wn : Nat) : Int))), .int (zI (((bn : Nat) : Int)))])), (aco, .inl (dA 5, 6, .inr (.inr (.inr (.inr kf))))), ((ca 0), .inr (1, [])), ((ca 1), .inr (2, [])), ((ca 2), .inr (3, [])), ((ca 3), .inr (4, [])), ((ca 4), .inr (5, [])), ((ca 5), .inr (6, [])), (apd, .inr (0, [.ref pb, .int (zI (((bs.length : Nat) : Int))), .int (u.2.1)])), (pb, .inl (dA 0, 400, .inl fp)), (fo, .inl (dA 1, 24, .inl u.1)), (asc, .inr (0, [.ref sb, .int (u.2.2.2.1), .int (u.2.2.2.2)])), (sb, .inl (dA 0, 400, .inl u.2.2.1))]) (fun _ _ => False) (fun _ => []) := by
  refine sxh_i hst (by decide) RX1 rfl (Nat.le_of_ble_eq_true rfl) ?_
  intro pg ev s mt args below meth cd R A Q hR X htab exit H locs hw ls hl
  subst hR
  have hl : lv_has ls 5 [(0, .ref h0), (1, .int (zI (((1 : Nat) : Int)))), (2, .int (zI (((k : Nat) : Int)))), (3, .int (zI (((n : Nat) : Int))))] := hl
  refine lv_aload_n X.x X.b dX1_reads_0 rfl (lv_at hl 0 rfl) ?_
  refine z_get X hw in_X1 0 rfl rfl 5 (by decide) q187 rfl rfl dX1_reads_1 ?_
  refine z_iconst X dX1_reads_4 ?_
  refine z_put X hw in_X10 tyX10 tyX10_ok nmX10 8 rfl rfl 2 (by decide) q144 rfl rfl rfl rfl (Nat.le_of_ble_eq_true rfl) dX1_reads_5 (fun H locs hw => ?_)
  have hw : pc_S D A s.heap [(h0, .inr (9, [.ref aco, .ref ali, .ref acu, .ref a1, .ref a2, .ref apd, .ref asc, .ref fo, .int (zI (((wn : Nat) : Int))), .int (zI (((bn : Nat) : Int)))])), (aco, .inl (dA 5, 6, .inr (.inr (.inr (.inr kf))))), ((ca 0), .inr (1, [])), ((ca 1), .inr (2, [])), ((ca 2), .inr (3, [])), ((ca 3), .inr (4, [])), ((ca 4), .inr (5, [])), ((ca 5), .inr (6, [])), (apd, .inr (0, [.ref pb, .int (zI (((bs.length : Nat) : Int))), .int (zI 0)])), (pb, .inl (dA 0, 400, .inl fp)), (fo, .inl (dA 1, 24, .inl g)), (asc, .inr (0, [.ref sb, .int (tm), .int (ta)])), (sb, .inl (dA 0, 400, .inl fs))] H locs := hw
  refine lv_aload_n X.x X.b dX1_reads_8 rfl (lv_at hl 0 rfl) ?_
  refine z_get X hw in_X1 0 rfl rfl 0 (by decide) q182 rfl rfl dX1_reads_9 ?_
  refine lv_iload_n X.x X.b dX1_reads_12 rfl (lv_at hl 1 rfl) ?_
  refine z_aald X hw 1 5 1 rfl rfl (by decide) (by omega) (v := .ref (ca 1)) (congrArg va_rf (hkf 1 (by decide))) dX1_reads_13 ?_
  refine lv_aload_n X.x X.b dX1_reads_14 rfl (lv_at hl 0 rfl) ?_
  refine z_get X hw in_X1 0 rfl rfl 5 (by decide) q187 rfl rfl dX1_reads_15 ?_
  refine lv_aload_n X.x X.b dX1_reads_18 rfl (lv_at hl 0 rfl) ?_
  refine z_get X hw in_X1 0 rfl rfl 7 (by decide) q189 rfl rfl dX1_reads_19 ?_
  refine lv_iload_n X.x X.b dX1_reads_22 rfl (lv_at hl 3 rfl) ?_
  refine lv_iload_n X.x X.b dX1_reads_23 rfl (lv_at hl 2 rfl) ?_
  obtain ⟨t_1, ht_1⟩ : ∃ q : Bool, q = ((decP 1 k bs n).isNone) := ⟨_, rfl⟩
  refine cx_v5 (c1 := 0) (s1 := 0) X hw [3, 8, 9, 10] [0, 1, 2, 4, 5, 6, 7, 11, 12] (wr := [(h0, .inr (9, [.ref aco, .ref ali, .ref acu, .ref a1, .ref a2, .ref apd, .ref asc, .ref fo, .int (zI (((wn : Nat) : Int))), .int (zI (((bn : Nat) : Int)))])), (aco, .inl (dA 5, 6, .inr (.inr (.inr (.inr kf))))), ((ca 0), .inr (1, [])), ((ca 2), .inr (3, [])), ((ca 3), .inr (4, [])), ((ca 4), .inr (5, [])), ((ca 5), .inr (6, [])), (asc, .inr (0, [.ref sb, .int (tm), .int (ta)])), (sb, .inl (dA 0, 400, .inl fs))]) (vx_runF (As := [.ref apd, .ref fo, .int (zI (((n : Nat) : Int))), .int (zI (((k : Nat) : Int)))]) (rest := []) (pc_at X 2 rfl) X.fix (m_dec_1 l hst D dA (ca 1) apd pb fo bs k n fp g hf h4 hk hn t_1 ht_1 _) (va_cwF (x := (mn_ "PostingCodes$Code" "decode" "(LPostingCodes$Row;[SII)V")) (C := RX4) 4 X.t (lw_F q516 q560 q521 q38 q523) rfl rfl rfl (pc_nf X.N 7 rfl) (by decide +kernel) (pc_rmle (by decide) (by decide))) (pc_preV X hw [3, 8, 9, 10] rfl rfl 2 3 rfl rfl rfl) rfl rfl hl.1 rfl (lv_room (Nat.le_of_ble_eq_true rfl)) dX1_reads_24 pc_le1) rfl rfl rfl rfl (fun E ce q9 ux_4 H locs hq hw h1 h2 h3 => ?_) (fun u hq => pc_c0 hq.1) (fun u_3 H locs hq hw => ?_)
  · skip
    have hw : pc_S D A s.heap [(h0, .inr (9, [.ref aco, .ref ali, .ref acu, .ref a1, .ref a2, .ref apd, .ref asc, .ref fo, .int (zI (((wn : Nat) : Int))), .int (zI (((bn : Nat) : Int)))])), (aco, .inl (dA 5, 6, .inr (.inr (.inr (.inr kf))))), ((ca 0), .inr (1, [])), ((ca 2), .inr (3, [])), ((ca 3), .inr (4, [])), ((ca 4), .inr (5, [])), ((ca 5), .inr (6, [])), (asc, .inr (0, [.ref sb, .int (tm), .int (ta)])), (sb, .inl (dA 0, 400, .inl fs)), ((ca 1), .inr (2, [])), (apd, .inr (0, [.ref pb, .int (zI (((bs.length : Nat) : Int))), .int (ux_4.2)])), (pb, .inl (dA 0, 400, .inl fp)), (fo, .inl (dA 1, 24, .inl ux_4.1))] H locs := hw
    obtain ⟨rfl, htt⟩ := hq
    refine pc_catch (hh := [(8, 29, 32, 7)]) (pre := []) (q := (8, 29, 32, 7)) (suf := []) (E := xIAE) (nm := xIAE) X htab rfl (by decide) (by decide) q312 (by decide) (fun _ h => nomatch h) h1 h2 h3 ?_
    refine lv_astore (lv' := [(4, .ref q9), (0, .ref h0), (1, .int (zI (((1 : Nat) : Int)))), (2, .int (zI (((k : Nat) : Int)))), (3, .int (zI (((n : Nat) : Int))))]) X.x X.b dX1_reads_32 hl (by decide) rfl (fun ls hl => ?_)
    refine z_iconst X dX1_reads_34 ?_
    have hw : pc_S D A s.heap [(h0, .inr (9, [.ref aco, .ref ali, .ref acu, .ref a1, .ref a2, .ref apd, .ref asc, .ref fo, .int (zI (((wn : Nat) : Int))), .int (zI (((bn : Nat) : Int)))])), (aco, .inl (dA 5, 6, .inr (.inr (.inr (.inr kf))))), ((ca 0), .inr (1, [])), ((ca 1), .inr (2, [])), ((ca 2), .inr (3, [])), ((ca 3), .inr (4, [])), ((ca 4), .inr (5, [])), ((ca 5), .inr (6, [])), (apd, .inr (0, [.ref pb, .int (zI (((bs.length : Nat) : Int))), .int (ux_4.2)])), (pb, .inl (dA 0, 400, .inl fp)), (fo, .inl (dA 1, 24, .inl ux_4.1)), (asc, .inr (0, [.ref sb, .int (tm), .int (ta)])), (sb, .inl (dA 0, 400, .inl fs))] H locs := hw.sub [0, 1, 2, 9, 3, 4, 5, 6, 10, 11, 12, 7, 8] rfl rfl
    have hno : dec 1 k bs n = none := by
      show Option.map _ _ = _
      rw [ht_1] at htt
      rw [Option.isNone_iff_eq_none.mp htt]; rfl
    exact exit (ux_4.1, ux_4.2, fs, tm, ta) dX1_reads_35 (by decide) ⟨by rw [goodB_none hno]; rfl, fun h => by rw [goodB_none hno] at h; cases h⟩ hw pc_le1.1 pc_le1.2
  · skip
    obtain ⟨fd, ad⟩ := u_3
    have hw : pc_S D A s.heap [(h0, .inr (9, [.ref aco, .ref ali, .ref acu, .ref a1, .ref a2, .ref apd, .ref asc, .ref fo, .int (zI (((wn : Nat) : Int))), .int (zI (((bn : Nat) : Int)))])), (aco, .inl (dA 5, 6, .inr (.inr (.inr (.inr kf))))), ((ca 0), .inr (1, [])), ((ca 2), .inr (3, [])), ((ca 3), .inr (4, [])), ((ca 4), .inr (5, [])), ((ca 5), .inr (6, [])), (asc, .inr (0, [.ref sb, .int (tm), .int (ta)])), (sb, .inl (dA 0, 400, .inl fs)), ((ca 1), .inr (2, [])), (apd, .inr (0, [.ref pb, .int (zI (((bs.length : Nat) : Int))), .int (ad)])), (pb, .inl (dA 0, 400, .inl fp)), (fo, .inl (dA 1, 24, .inl fd))] H locs := hw
    obtain ⟨hq, ys, qq, hd, hfa⟩ := hq
    have hdec : dec 1 k bs n = some ys := by
      show Option.map _ _ = _
      rw [hd]; rfl
    dsimp only at hfa
    obtain ⟨hyl, hys⟩ := dec_spec hn hdec
    subst hyl
    refine lv_goto (tgt := 36) X.x X.b dX1_reads_29 (by decide) ?_
    refine z_iconst X dX1_reads_36 ?_
    refine lv_istore (lv' := [(4, .int (zI 1)), (0, .ref h0), (1, .int (zI (((1 : Nat) : Int)))), (2, .int (zI (((k : Nat) : Int)))), (3, .int (zI (((ys.length : Nat) : Int))))]) X.x X.b dX1_reads_37 hl (by decide) rfl (fun ls hl => ?_)
    have B39 : ∀ (NN : Nat) (i : Nat) (hi1 : 1 ≤ i) (hi2 : i ≤ ys.length ∨ i = 1) (hinc : ∀ j, j + 1 < i → ys.getD j 0 < ys.getD (j + 1) 0) (hNN : 30 - i < NN) (H : Heap) (locs : List Loc), pc_S D A s.heap [(h0, .inr (9, [.ref aco, .ref ali, .ref acu, .ref a1, .ref a2, .ref apd, .ref asc, .ref fo, .int (zI (((wn : Nat) : Int))), .int (zI (((bn : Nat) : Int)))])), (aco, .inl (dA 5, 6, .inr (.inr (.inr (.inr kf))))), ((ca 0), .inr (1, [])), ((ca 1), .inr (2, [])), ((ca 2), .inr (3, [])), ((ca 3), .inr (4, [])), ((ca 4), .inr (5, [])), ((ca 5), .inr (6, [])), (apd, .inr (0, [.ref pb, .int (zI (((bs.length : Nat) : Int))), .int (ad)])), (pb, .inl (dA 0, 400, .inl fp)), (fo, .inl (dA 1, 24, .inl fd)), (asc, .inr (0, [.ref sb, .int (tm), .int (ta)])), (sb, .inl (dA 0, 400, .inl fs))] H locs → ∀ ls : Array Slot, lv_has ls 5 [(0, .ref h0), (1, .int (zI (((1 : Nat) : Int)))), (2, .int (zI (((k : Nat) : Int)))), (3, .int (zI (((ys.length : Nat) : Int)))), (4, .int (zI (((i : Nat) : Int))))] → W pg l ev (pc_rm 12 1 6) s mt args below meth cd H locs 0 0 Q (F0 mt 39 ls []) := by
      intro NN
      induction NN with
      | zero => intro i hi1 hi2 hinc hNN; exact absurd hNN (Nat.not_lt_zero _)
      | succ NN ih39 =>
        intro i hi1 hi2 hinc hNN H locs hw ls hl
        refine lv_iload X.x X.b dX1_reads_39 (lv_at hl 4 rfl) ?_
        refine lv_iload_n X.x X.b dX1_reads_41 rfl (lv_at hl 3 rfl) ?_
        refine z_icmp_ge (tgt := 72) X dX1_reads_42 (by decide) (by omega) (by omega) (fun c_5 => ?_) (fun c_5 => ?_)
        · skip
          have hib : incB ys = true := incB_iff.mpr (fun j hj => hinc j (by omega))
          have hvy := valid_of hn hys hib
          have hel := enc_len (c := 1) hvy hk
          refine lv_aload_n X.x X.b dX1_reads_72 rfl (lv_at hl 0 rfl) ?_
          refine z_get X hw in_X1 0 rfl rfl 6 (by decide) q188 rfl rfl dX1_reads_73 ?_
          refine cv_v (c1 := 0) (s1 := 0) X hw [11] [0, 1, 2, 3, 4, 5, 6, 7, 8, 9, 10, 12] (wr := [(h0, .inr (9, [.ref aco, .ref ali, .ref acu, .ref a1, .ref a2, .ref apd, .ref asc, .ref fo, .int (zI (((wn : Nat) : Int))), .int (zI (((bn : Nat) : Int)))])), (aco, .inl (dA 5, 6, .inr (.inr (.inr (.inr kf))))), ((ca 0), .inr (1, [])), ((ca 1), .inr (2, [])), ((ca 2), .inr (3, [])), ((ca 3), .inr (4, [])), ((ca 4), .inr (5, [])), ((ca 5), .inr (6, [])), (apd, .inr (0, [.ref pb, .int (zI (((bs.length : Nat) : Int))), .int (ad)])), (pb, .inl (dA 0, 400, .inl fp)), (fo, .inl (dA 1, 24, .inl fd)), (sb, .inl (dA 0, 400, .inl fs))]) (va_runV (As := []) (rest := []) X.fix (m_Row_begin l hst D dA asc sb (tm) (ta) _) (cwV 0 X.t (lw_V q359 q360 q361 q46 q362) rfl rfl rfl (by decide +kernel) (pc_rmle (by decide) (by decide))) (pc_preV X hw [11] rfl rfl 0 11 rfl rfl rfl) rfl rfl hl.1 rfl (lv_room (Nat.le_of_ble_eq_true rfl)) dX1_reads_76 ⟨Nat.le_of_ble_eq_true rfl, Nat.le_of_ble_eq_true rfl⟩) rfl rfl rfl rfl (fun _ _ => pc_c00) (fun u_7 H locs hq hw => ?_)
          have hw : pc_S D A s.heap [(h0, .inr (9, [.ref aco, .ref ali, .ref acu, .ref a1, .ref a2, .ref apd, .ref asc, .ref fo, .int (zI (((wn : Nat) : Int))), .int (zI (((bn : Nat) : Int)))])), (aco, .inl (dA 5, 6, .inr (.inr (.inr (.inr kf))))), ((ca 0), .inr (1, [])), ((ca 1), .inr (2, [])), ((ca 2), .inr (3, [])), ((ca 3), .inr (4, [])), ((ca 4), .inr (5, [])), ((ca 5), .inr (6, [])), (apd, .inr (0, [.ref pb, .int (zI (((bs.length : Nat) : Int))), .int (ad)])), (pb, .inl (dA 0, 400, .inl fp)), (fo, .inl (dA 1, 24, .inl fd)), (sb, .inl (dA 0, 400, .inl fs)), (asc, .inr (0, [.ref sb, .int (zI 0), .int (zI 0)]))] H locs := hw
          refine lv_aload_n X.x X.b dX1_reads_79 rfl (lv_at hl 0 rfl) ?_
          refine z_get X hw in_X1 0 rfl rfl 0 (by decide) q182 rfl rfl dX1_reads_80 ?_
          refine lv_iload_n X.x X.b dX1_reads_83 rfl (lv_at hl 1 rfl) ?_
          refine z_aald X hw 1 5 1 rfl rfl (by decide) (by omega) (v := .ref (ca 1)) (congrArg va_rf (hkf 1 (by decide))) dX1_reads_84 ?_
          refine lv_aload_n X.x X.b dX1_reads_85 rfl (lv_at hl 0 rfl) ?_
          refine z_get X hw in_X1 0 rfl rfl 6 (by decide) q188 rfl rfl dX1_reads_86 ?_
          refine lv_aload_n X.x X.b dX1_reads_89 rfl (lv_at hl 0 rfl) ?_
          refine z_get X hw in_X1 0 rfl rfl 7 (by decide) q189 rfl rfl dX1_reads_90 ?_
          refine lv_iload_n X.x X.b dX1_reads_93 rfl (lv_at hl 3 rfl) ?_
          refine lv_iload_n X.x X.b dX1_reads_94 rfl (lv_at hl 2 rfl) ?_
          refine cv_v5 (c1 := 0) (s1 := 0) X hw [3, 12, 11, 10] [0, 1, 2, 4, 5, 6, 7, 8, 9] (wr := [(h0, .inr (9, [.ref aco, .ref ali, .ref acu, .ref a1, .ref a2, .ref apd, .ref asc, .ref fo, .int (zI (((wn : Nat) : Int))), .int (zI (((bn : Nat) : Int)))])), (aco, .inl (dA 5, 6, .inr (.inr (.inr (.inr kf))))), ((ca 0), .inr (1, [])), ((ca 2), .inr (3, [])), ((ca 3), .inr (4, [])), ((ca 4), .inr (5, [])), ((ca 5), .inr (6, [])), (apd, .inr (0, [.ref pb, .int (zI (((bs.length : Nat) : Int))), .int (ad)])), (pb, .inl (dA 0, 400, .inl fp))]) (va_runF (As := [.ref asc, .ref fo, .int (zI (((ys.length : Nat) : Int))), .int (zI (((k : Nat) : Int)))]) (rest := []) (pc_at X 2 rfl) X.fix (m_enc_1 l hst D dA (ca 1) asc sb fo (zI 0) ys k fs fd hvy hfa hk _) (va_cwF (x := (mn_ "PostingCodes$Code" "encode" "(LPostingCodes$Row;[SII)V")) (C := RX4) 4 X.t (lw_F q364 q406 q370 q38 q372) rfl rfl rfl (pc_nf X.N 1 rfl) (by decide +kernel) (pc_rmle (by decide) (by decide))) (pc_preV X hw [3, 12, 11, 10] rfl rfl 2 3 rfl rfl rfl) rfl rfl hl.1 rfl (lv_room (Nat.le_of_ble_eq_true rfl)) dX1_reads_95 ⟨Nat.le_of_ble_eq_true rfl, Nat.le_of_ble_eq_true rfl⟩) rfl rfl rfl rfl (fun _ _ => pc_c00) (fun u_9 H locs hq hw => ?_)
          have hw : pc_S D A s.heap [(h0, .inr (9, [.ref aco, .ref ali, .ref acu, .ref a1, .ref a2, .ref apd, .ref asc, .ref fo, .int (zI (((wn : Nat) : Int))), .int (zI (((bn : Nat) : Int)))])), (aco, .inl (dA 5, 6, .inr (.inr (.inr (.inr kf))))), ((ca 0), .inr (1, [])), ((ca 2), .inr (3, [])), ((ca 3), .inr (4, [])), ((ca 4), .inr (5, [])), ((ca 5), .inr (6, [])), (apd, .inr (0, [.ref pb, .int (zI (((bs.length : Nat) : Int))), .int (ad)])), (pb, .inl (dA 0, 400, .inl fp)), ((ca 1), .inr (2, [])), (asc, .inr (0, [.ref sb, .int (zI ((((enc 1 k ys).length : Nat) : Int))), .int (zI 0)])), (sb, .inl (dA 0, 400, .inl u_9)), (fo, .inl (dA 1, 24, .inl fd))] H locs := hw
          have he_1 : RowIs (enc 1 k ys) u_9 := hq
          refine lv_aload_n X.x X.b dX1_reads_100 rfl (lv_at hl 0 rfl) ?_
          refine z_get X hw in_X1 0 rfl rfl 6 (by decide) q188 rfl rfl dX1_reads_101 ?_
          refine lv_aload_n X.x X.b dX1_reads_104 rfl (lv_at hl 0 rfl) ?_
          refine z_get X hw in_X1 0 rfl rfl 5 (by decide) q187 rfl rfl dX1_reads_105 ?_
          refine cv_i (c1 := 0) (s1 := 0) X hw [10, 11, 7, 8] [0, 1, 2, 3, 4, 5, 6, 9, 12] (wr := [(h0, .inr (9, [.ref aco, .ref ali, .ref acu, .ref a1, .ref a2, .ref apd, .ref asc, .ref fo, .int (zI (((wn : Nat) : Int))), .int (zI (((bn : Nat) : Int)))])), (aco, .inl (dA 5, 6, .inr (.inr (.inr (.inr kf))))), ((ca 0), .inr (1, [])), ((ca 2), .inr (3, [])), ((ca 3), .inr (4, [])), ((ca 4), .inr (5, [])), ((ca 5), .inr (6, [])), ((ca 1), .inr (2, [])), (fo, .inl (dA 1, 24, .inl fd))]) (va_runV (As := [.ref apd]) (rest := []) X.fix (m_Row_same l hst D dA asc sb apd pb (zI 0) (ad) (enc 1 k ys) bs u_9 fp he_1 hf h4 (by omega) _) (cwV 1 X.t (lw_V q584 q585 q586 q46 q587) rfl rfl rfl (by decide +kernel) (pc_rmle (by decide) (by decide))) (pc_preV X hw [10, 11, 7, 8] rfl rfl 0 10 rfl rfl rfl) rfl rfl hl.1 rfl (lv_room (Nat.le_of_ble_eq_true rfl)) dX1_reads_108 ⟨Nat.le_of_ble_eq_true rfl, Nat.le_of_ble_eq_true rfl⟩) rfl rfl rfl rfl (fun _ _ _ => pc_c00) (fun r_10 u_11 H locs hq hw => ?_)
          have hw : pc_S D A s.heap [(h0, .inr (9, [.ref aco, .ref ali, .ref acu, .ref a1, .ref a2, .ref apd, .ref asc, .ref fo, .int (zI (((wn : Nat) : Int))), .int (zI (((bn : Nat) : Int)))])), (aco, .inl (dA 5, 6, .inr (.inr (.inr (.inr kf))))), ((ca 0), .inr (1, [])), ((ca 2), .inr (3, [])), ((ca 3), .inr (4, [])), ((ca 4), .inr (5, [])), ((ca 5), .inr (6, [])), ((ca 1), .inr (2, [])), (fo, .inl (dA 1, 24, .inl fd)), (asc, .inr (0, [.ref sb, .int (zI ((((enc 1 k ys).length : Nat) : Int))), .int (zI 0)])), (sb, .inl (dA 0, 400, .inl u_9)), (apd, .inr (0, [.ref pb, .int (zI (((bs.length : Nat) : Int))), .int (ad)])), (pb, .inl (dA 0, 400, .inl fp))] H locs := hw
          subst hq
          have hw : pc_S D A s.heap [(h0, .inr (9, [.ref aco, .ref ali, .ref acu, .ref a1, .ref a2, .ref apd, .ref asc, .ref fo, .int (zI (((wn : Nat) : Int))), .int (zI (((bn : Nat) : Int)))])), (aco, .inl (dA 5, 6, .inr (.inr (.inr (.inr kf))))), ((ca 0), .inr (1, [])), ((ca 1), .inr (2, [])), ((ca 2), .inr (3, [])), ((ca 3), .inr (4, [])), ((ca 4), .inr (5, [])), ((ca 5), .inr (6, [])), (apd, .inr (0, [.ref pb, .int (zI (((bs.length : Nat) : Int))), .int (ad)])), (pb, .inl (dA 0, 400, .inl fp)), (fo, .inl (dA 1, 24, .inl fd)), (asc, .inr (0, [.ref sb, .int (zI ((((enc 1 k ys).length : Nat) : Int))), .int (zI 0)])), (sb, .inl (dA 0, 400, .inl u_9))] H locs := hw.sub [0, 1, 2, 7, 3, 4, 5, 6, 11, 12, 8, 9, 10] rfl rfl
          have hgb : goodB 1 k bs ys.length = decide (enc 1 k ys = bs) := by rw [goodB_some hdec, hib, Bool.true_and]
          rw [← hgb]
          exact exit (fd, ad, u_9, zI (((enc 1 k ys).length : Nat) : Int), zI 0) dX1_reads_111 (by cases goodB 1 k bs ys.length <;> decide) ⟨rfl, fun h => by
            rw [hgb] at h
            have h := of_decide_eq_true h
            exact ⟨ys, hdec, hfa, h ▸ he_1, by rw [h]⟩⟩ hw (Nat.zero_le _) (Nat.zero_le _)
        · skip
          refine lv_aload_n X.x X.b dX1_reads_45 rfl (lv_at hl 0 rfl) ?_
          refine z_get X hw in_X1 0 rfl rfl 7 (by decide) q189 rfl rfl dX1_reads_46 ?_
          refine lv_iload X.x X.b dX1_reads_49 (lv_at hl 4 rfl) ?_
          refine z_sald X hw 10 i rfl (by decide) (by omega) (v := zI ((ys.getD i 0 : Nat) : Int)) (hfa _ (by omega)) dX1_reads_51 ?_
          refine lv_aload_n X.x X.b dX1_reads_52 rfl (lv_at hl 0 rfl) ?_
          refine z_get X hw in_X1 0 rfl rfl 7 (by decide) q189 rfl rfl dX1_reads_53 ?_
          refine lv_iload X.x X.b dX1_reads_56 (lv_at hl 4 rfl) ?_
          refine z_iconst X dX1_reads_58 ?_
          refine z_isub X dX1_reads_59 ?_
          refine z_sald X hw 10 (i - 1) rfl (by decide) (by omega) (v := zI ((ys.getD (i - 1) 0 : Nat) : Int)) (hfa _ (by omega)) dX1_reads_60 ?_
          have hx8 := hys i (by omega)
          have hx9 := hys (i - 1) (by omega)
          refine z_icmp_gt (tgt := 66) X dX1_reads_61 (by decide) (by omega) (by omega) (fun c_12 => ?_) (fun c_12 => ?_)
          · skip
            refine z_iinc (lv' := [(4, .int (zI (((i : Nat) : Int) + 1))), (0, .ref h0), (1, .int (zI (((1 : Nat) : Int)))), (2, .int (zI (((k : Nat) : Int)))), (3, .int (zI (((ys.length : Nat) : Int))))]) X dX1_reads_66 hl (k0 := 4) rfl (by decide) rfl (fun ls hl => ?_)
            have hl : lv_has ls 5 [(4, .int (zI (((i + 1 : Nat) : Int)))), (0, .ref h0), (1, .int (zI (((1 : Nat) : Int)))), (2, .int (zI (((k : Nat) : Int)))), (3, .int (zI (((ys.length : Nat) : Int))))] := by rw [show (((i + 1 : Nat) : Int) : Int) = ((i : Nat) : Int) + 1 from by omega]; exact hl
            refine lv_goto (tgt := 39) X.x X.b dX1_reads_69 (by decide) ?_
            exact ih39  (i + 1) (by omega) (Or.inl (by omega)) (fun j h => by
                by_cases e : j + 1 = i
                · rw [e, show j = i - 1 from by omega]; omega
                · exact hinc j (by omega)) (by omega) H locs hw ls (lv_sub hl [1, 2, 3, 4, 0] rfl)
          · skip
            refine z_iconst X dX1_reads_64 ?_
            have hib : incB ys = false := by
              cases h : incB ys with
              | false => rfl
              | true =>
                have := incB_iff.mp h (i - 1) (by omega)
                rw [show i - 1 + 1 = i from by omega] at this
                omega
            have hgb : goodB 1 k bs ys.length = false := by rw [goodB_some hdec, hib]; rfl
            exact exit (fd, ad, fs, tm, ta) dX1_reads_65 (by decide) ⟨by rw [hgb]; rfl, fun h => by rw [hgb] at h; cases h⟩ hw (Nat.zero_le _) (Nat.zero_le _)
    exact B39 _ 1 (Nat.le_refl _) (Or.inr rfl) (fun j h => absurd h (by omega)) (Nat.lt_succ_self _) H locs (hw.sub [0, 1, 2, 9, 3, 4, 5, 6, 10, 11, 12, 7, 8] rfl rfl) ls (lv_sub hl [1, 2, 3, 4, 0] rfl)
set_option maxHeartbeats 4000000 in
/-- reads, code 2 -/
theorem m_reads_2 (l : Launch) (hst : l.stackTraces = false) (D : va_G) (dA : Nat → ClassId) (h0 aco ali acu a1 a2 apd asc fo wn bn : Nat) (hwb : wn ≤ 1000 ∧ bn ≤ 1000) (kf : Nat → Option Nat) (ca : Nat → Nat) (hkf : ∀ c, c < 6 → kf c = some (ca c)) (sb : Nat) (tm ta : Int32) (fs : Nat → Int32) (pb : Nat) (pa : Int32) (bs : List Bool) (fp g : Nat → Int32) (hf : RowIs bs fp) (h4 : bs.length ≤ 400) (k n : Nat) (hk : k ≤ 7) (hn : n ≤ 24) : px_I (SX := Unit) l yX1_reads (wsW_ yX1_reads cX1_reads 5 (some .boolean) [(8, 29, 32, 7)]) (pc_rm 12 1 6) D dA [.ref h0, .int (zI (((2 : Nat) : Int))), .int (zI (((k : Nat) : Int))), .int (zI (((n : Nat) : Int)))] [(h0, .inr (9, [.ref aco, .ref ali, .ref acu, .ref a1, .ref a2, .ref apd, .ref asc, .ref fo, .int (zI (((wn : Nat) : Int))), .int (zI (((bn : Nat) : Int)))])), (aco, .inl (dA 5, 6, .inr (.inr (.inr (.inr kf))))), ((ca 0), .inr (1, [])), ((ca 1), .inr (2, [])), ((ca 2), .inr (3, [])), ((ca 3), .inr (4, [])), ((ca 4), .inr (5, [])), ((ca 5), .inr (6, [])), (apd, .inr (0, [.ref pb, .int (zI (((bs.length : Nat) : Int))), .int (pa)])), (pb, .inl (dA 0, 400, .inl fp)), (fo, .inl (dA 1, 24, .inl g)), (asc, .inr (0, [.ref sb, .int (tm), .int (ta)])), (sb, .inl (dA 0, 400, .inl fs))] (fun r (u : (Nat → Int32) × Int32 × (Nat → Int32) × Int32 × Int32) => r = zI ((b2n (goodB 2 k bs n) : Nat) : Int) ∧ ((goodB 2 k bs n) = true → ∃ ys, dec 2 k bs n = some ys ∧ ArrIs ys u.1 ∧ RowIs bs u.2.2.1 ∧ u.2.2.2.1 = zI ((bs.length : Nat) : Int))) (fun u : (Nat → Int32) × Int32 × (Nat → Int32) × Int32 × Int32 => [(h0, .inr (9, [.ref aco, .ref ali, .ref acu, .ref a1, .ref a2, .ref apd, .ref asc, .ref fo, .int (zI (((wn : Nat) : Int))), .int (zI (((bn : Nat) : Int)))])), (aco, .inl (dA 5, 6, .inr (.inr (.inr (.inr kf))))), ((ca 0), .inr (1, [])), ((ca 1), .inr (2, [])), ((ca 2), .inr (3, [])), ((ca 3), .inr (4, [])), ((ca 4), .inr (5, [])), ((ca 5), .inr (6, [])), (apd, .inr (0, [.ref pb, .int (zI (((bs.length : Nat) : Int))), .int (u.2.1)])), (pb, .inl (dA 0, 400, .inl fp)), (fo, .inl (dA 1, 24, .inl u.1)), (asc, .inr (0, [.ref sb, .int (u.2.2.2.1), .int (u.2.2.2.2)])), (sb, .inl (dA 0, 400, .inl u.2.2.1))]) (fun _ _ => False) (fun _ => []) := by
  refine sxh_i hst (by decide) RX1 rfl (Nat.le_of_ble_eq_true rfl) ?_
  intro pg ev s mt args below meth cd R A Q hR X htab exit H locs hw ls hl
  subst hR
  have hl : lv_has ls 5 [(0, .ref h0), (1, .int (zI (((2 : Nat) : Int)))), (2, .int (zI (((k : Nat) : Int)))), (3, .int (zI (((n : Nat) : Int))))] := hl
  refine lv_aload_n X.x X.b dX1_reads_0 rfl (lv_at hl 0 rfl) ?_
  refine z_get X hw in_X1 0 rfl rfl 5 (by decide) q187 rfl rfl dX1_reads_1 ?_
  refine z_iconst X dX1_reads_4 ?_
  refine z_put X hw in_X10 tyX10 tyX10_ok nmX10 8 rfl rfl 2 (by decide) q144 rfl rfl rfl rfl (Nat.le_of_ble_eq_true rfl) dX1_reads_5 (fun H locs hw => ?_)
  have hw : pc_S D A s.heap [(h0, .inr (9, [.ref aco, .ref ali, .ref acu, .ref a1, .ref a2, .ref apd, .ref asc, .ref fo, .int (zI (((wn : Nat) : Int))), .int (zI (((bn : Nat) : Int)))])), (aco, .inl (dA 5, 6, .inr (.inr (.inr (.inr kf))))), ((ca 0), .inr (1, [])), ((ca 1), .inr (2, [])), ((ca 2), .inr (3, [])), ((ca 3), .inr (4, [])), ((ca 4), .inr (5, [])), ((ca 5), .inr (6, [])), (apd, .inr (0, [.ref pb, .int (zI (((bs.length : Nat) : Int))), .int (zI 0)])), (pb, .inl (dA 0, 400, .inl fp)), (fo, .inl (dA 1, 24, .inl g)), (asc, .inr (0, [.ref sb, .int (tm), .int (ta)])), (sb, .inl (dA 0, 400, .inl fs))] H locs := hw
  refine lv_aload_n X.x X.b dX1_reads_8 rfl (lv_at hl 0 rfl) ?_
  refine z_get X hw in_X1 0 rfl rfl 0 (by decide) q182 rfl rfl dX1_reads_9 ?_
  refine lv_iload_n X.x X.b dX1_reads_12 rfl (lv_at hl 1 rfl) ?_
  refine z_aald X hw 1 5 2 rfl rfl (by decide) (by omega) (v := .ref (ca 2)) (congrArg va_rf (hkf 2 (by decide))) dX1_reads_13 ?_
  refine lv_aload_n X.x X.b dX1_reads_14 rfl (lv_at hl 0 rfl) ?_
  refine z_get X hw in_X1 0 rfl rfl 5 (by decide) q187 rfl rfl dX1_reads_15 ?_
  refine lv_aload_n X.x X.b dX1_reads_18 rfl (lv_at hl 0 rfl) ?_
  refine z_get X hw in_X1 0 rfl rfl 7 (by decide) q189 rfl rfl dX1_reads_19 ?_
  refine lv_iload_n X.x X.b dX1_reads_22 rfl (lv_at hl 3 rfl) ?_
  refine lv_iload_n X.x X.b dX1_reads_23 rfl (lv_at hl 2 rfl) ?_
  obtain ⟨t_1, ht_1⟩ : ∃ q : Bool, q = ((decP 2 k bs n).isNone) := ⟨_, rfl⟩
  refine cx_v5 (c1 := 0) (s1 := 0) X hw [4, 8, 9, 10] [0, 1, 2, 3, 5, 6, 7, 11, 12] (wr := [(h0, .inr (9, [.ref aco, .ref ali, .ref acu, .ref a1, .ref a2, .ref apd, .ref asc, .ref fo, .int (zI (((wn : Nat) : Int))), .int (zI (((bn : Nat) : Int)))])), (aco, .inl (dA 5, 6, .inr (.inr (.inr (.inr kf))))), ((ca 0), .inr (1, [])), ((ca 1), .inr (2, [])), ((ca 3), .inr (4, [])), ((ca 4), .inr (5, [])), ((ca 5), .inr (6, [])), (asc, .inr (0, [.ref sb, .int (tm), .int (ta)])), (sb, .inl (dA 0, 400, .inl fs))]) (vx_runF (As := [.ref apd, .ref fo, .int (zI (((n : Nat) : Int))), .int (zI (((k : Nat) : Int)))]) (rest := []) (pc_at X 3 rfl) X.fix (m_dec_2 l hst D dA (ca 2) apd pb fo bs k n fp g hf h4 hk hn t_1 ht_1 _) (va_cwF (x := (mn_ "PostingCodes$Code" "decode" "(LPostingCodes$Row;[SII)V")) (C := RX5) 4 X.t (lw_F q516 q574 q521 q38 q523) rfl rfl rfl (pc_nf X.N 8 rfl) (by decide +kernel) (pc_rmle (by decide) (by decide))) (pc_preV X hw [4, 8, 9, 10] rfl rfl 3 4 rfl rfl rfl) rfl rfl hl.1 rfl (lv_room (Nat.le_of_ble_eq_true rfl)) dX1_reads_24 pc_le1) rfl rfl rfl rfl (fun E ce q9 ux_4 H locs hq hw h1 h2 h3 => ?_) (fun u hq => pc_c0 hq.1) (fun u_3 H locs hq hw => ?_)
  · skip
    have hw : pc_S D A s.heap [(h0, .inr (9, [.ref aco, .ref ali, .ref acu, .ref a1, .ref a2, .ref apd, .ref asc, .ref fo, .int (zI (((wn : Nat) : Int))), .int (zI (((bn : Nat) : Int)))])), (aco, .inl (dA 5, 6, .inr (.inr (.inr (.inr kf))))), ((ca 0), .inr (1, [])), ((ca 1), .inr (2, [])), ((ca 3), .inr (4, [])), ((ca 4), .inr (5, [])), ((ca 5), .inr (6, [])), (asc, .inr (0, [.ref sb, .int (tm), .int (ta)])), (sb, .inl (dA 0, 400, .inl fs)), ((ca 2), .inr (3, [])), (apd, .inr (0, [.ref pb, .int (zI (((bs.length : Nat) : Int))), .int (ux_4.2)])), (pb, .inl (dA 0, 400, .inl fp)), (fo, .inl (dA 1, 24, .inl ux_4.1))] H locs := hw
    obtain ⟨rfl, htt⟩ := hq
    refine pc_catch (hh := [(8, 29, 32, 7)]) (pre := []) (q := (8, 29, 32, 7)) (suf := []) (E := xIAE) (nm := xIAE) X htab rfl (by decide) (by decide) q312 (by decide) (fun _ h => nomatch h) h1 h2 h3 ?_
    refine lv_astore (lv' := [(4, .ref q9), (0, .ref h0), (1, .int (zI (((2 : Nat) : Int)))), (2, .int (zI (((k : Nat) : Int)))), (3, .int (zI (((n : Nat) : Int))))]) X.x X.b dX1_reads_32 hl (by decide) rfl (fun ls hl => ?_)
    refine z_iconst X dX1_reads_34 ?_
    have hw : pc_S D A s.heap [(h0, .inr (9, [.ref aco, .ref ali, .ref acu, .ref a1, .ref a2, .ref apd, .ref asc, .ref fo, .int (zI (((wn : Nat) : Int))), .int (zI (((bn : Nat) : Int)))])), (aco, .inl (dA 5, 6, .inr (.inr (.inr (.inr kf))))), ((ca 0), .inr (1, [])), ((ca 1), .inr (2, [])), ((ca 2), .inr (3, [])), ((ca 3), .inr (4, [])), ((ca 4), .inr (5, [])), ((ca 5), .inr (6, [])), (apd, .inr (0, [.ref pb, .int (zI (((bs.length : Nat) : Int))), .int (ux_4.2)])), (pb, .inl (dA 0, 400, .inl fp)), (fo, .inl (dA 1, 24, .inl ux_4.1)), (asc, .inr (0, [.ref sb, .int (tm), .int (ta)])), (sb, .inl (dA 0, 400, .inl fs))] H locs := hw.sub [0, 1, 2, 3, 9, 4, 5, 6, 10, 11, 12, 7, 8] rfl rfl
    have hno : dec 2 k bs n = none := by
      show Option.map _ _ = _
      rw [ht_1] at htt
      rw [Option.isNone_iff_eq_none.mp htt]; rfl
    exact exit (ux_4.1, ux_4.2, fs, tm, ta) dX1_reads_35 (by decide) ⟨by rw [goodB_none hno]; rfl, fun h => by rw [goodB_none hno] at h; cases h⟩ hw pc_le1.1 pc_le1.2
  · skip
    obtain ⟨fd, ad⟩ := u_3
    have hw : pc_S D A s.heap [(h0, .inr (9, [.ref aco, .ref ali, .ref acu, .ref a1, .ref a2, .ref apd, .ref asc, .ref fo, .int (zI (((wn : Nat) : Int))), .int (zI (((bn : Nat) : Int)))])), (aco, .inl (dA 5, 6, .inr (.inr (.inr (.inr kf))))), ((ca 0), .inr (1, [])), ((ca 1), .inr (2, [])), ((ca 3), .inr (4, [])), ((ca 4), .inr (5, [])), ((ca 5), .inr (6, [])), (asc, .inr (0, [.ref sb, .int (tm), .int (ta)])), (sb, .inl (dA 0, 400, .inl fs)), ((ca 2), .inr (3, [])), (apd, .inr (0, [.ref pb, .int (zI (((bs.length : Nat) : Int))), .int (ad)])), (pb, .inl (dA 0, 400, .inl fp)), (fo, .inl (dA 1, 24, .inl fd))] H locs := hw
    obtain ⟨hq, ys, qq, hd, hfa⟩ := hq
    have hdec : dec 2 k bs n = some ys := by
      show Option.map _ _ = _
      rw [hd]; rfl
    dsimp only at hfa
    obtain ⟨hyl, hys⟩ := dec_spec hn hdec
    subst hyl
    refine lv_goto (tgt := 36) X.x X.b dX1_reads_29 (by decide) ?_
    refine z_iconst X dX1_reads_36 ?_
    refine lv_istore (lv' := [(4, .int (zI 1)), (0, .ref h0), (1, .int (zI (((2 : Nat) : Int)))), (2, .int (zI (((k : Nat) : Int)))), (3, .int (zI (((ys.length : Nat) : Int))))]) X.x X.b dX1_reads_37 hl (by decide) rfl (fun ls hl => ?_)
    have B39 : ∀ (NN : Nat) (i : Nat) (hi1 : 1 ≤ i) (hi2 : i ≤ ys.length ∨ i = 1) (hinc : ∀ j, j + 1 < i → ys.getD j 0 < ys.getD (j + 1) 0) (hNN : 30 - i < NN) (H : Heap) (locs : List Loc), pc_S D A s.heap [(h0, .inr (9, [.ref aco, .ref ali, .ref acu, .ref a1, .ref a2, .ref apd, .ref asc, .ref fo, .int (zI (((wn : Nat) : Int))), .int (zI (((bn : Nat) : Int)))])), (aco, .inl (dA 5, 6, .inr (.inr (.inr (.inr kf))))), ((ca 0), .inr (1, [])), ((ca 1), .inr (2, [])), ((ca 2), .inr (3, [])), ((ca 3), .inr (4, [])), ((ca 4), .inr (5, [])), ((ca 5), .inr (6, [])), (apd, .inr (0, [.ref pb, .int (zI (((bs.length : Nat) : Int))), .int (ad)])), (pb, .inl (dA 0, 400, .inl fp)), (fo, .inl (dA 1, 24, .inl fd)), (asc, .inr (0, [.ref sb, .int (tm), .int (ta)])), (sb, .inl (dA 0, 400, .inl fs))] H locs → ∀ ls : Array Slot, lv_has ls 5 [(0, .ref h0), (1, .int (zI (((2 : Nat) : Int)))), (2, .int (zI (((k : Nat) : Int)))), (3, .int (zI (((ys.length : Nat) : Int)))), (4, .int (zI (((i : Nat) : Int))))] → W pg l ev (pc_rm 12 1 6) s mt args below meth cd H locs 0 0 Q (F0 mt 39 ls []) := by
      intro NN
      induction NN with
      | zero => intro i hi1 hi2 hinc hNN; exact absurd hNN (Nat.not_lt_zero _)
      | succ NN ih39 =>
        intro i hi1 hi2 hinc hNN H locs hw ls hl
        refine lv_iload X.x X.b dX1_reads_39 (lv_at hl 4 rfl) ?_
        refine lv_iload_n X.x X.b dX1_reads_41 rfl (lv_at hl 3 rfl) ?_
        refine z_icmp_ge (tgt := 72) X dX1_reads_42 (by decide) (by omega) (by omega) (fun c_5 => ?_) (fun c_5 => ?_)
        · skip
          have hib : incB ys = true := incB_iff.mpr (fun j hj => hinc j (by omega))
          have hvy := valid_of hn hys hib
          have hel := enc_len (c := 2) hvy hk
          refine lv_aload_n X.x X.b dX1_reads_72 rfl (lv_at hl 0 rfl) ?_
          refine z_get X hw in_X1 0 rfl rfl 6 (by decide) q188 rfl rfl dX1_reads_73 ?_
          refine cv_v (c1 := 0) (s1 := 0) X hw [11] [0, 1, 2, 3, 4, 5, 6, 7, 8, 9, 10, 12] (wr := [(h0, .inr (9, [.ref aco, .ref ali, .ref acu, .ref a1, .ref a2, .ref apd, .ref asc, .ref fo, .int (zI (((wn : Nat) : Int))), .int (zI (((bn : Nat) : Int)))])), (aco, .inl (dA 5, 6, .inr (.inr (.inr (.inr kf))))), ((ca 0), .inr (1, [])), ((ca 1), .inr (2, [])), ((ca 2), .inr (3, [])), ((ca 3), .inr (4, [])), ((ca 4), .inr (5, [])), ((ca 5), .inr (6, [])), (apd, .inr (0, [.ref pb, .int (zI (((bs.length : Nat) : Int))), .int (ad)])), (pb, .inl (dA 0, 400, .inl fp)), (fo, .inl (dA 1, 24, .inl fd)), (sb, .inl (dA 0, 400, .inl fs))]) (va_runV (As := []) (rest := []) X.fix (m_Row_begin l hst D dA asc sb (tm) (ta) _) (cwV 0 X.t (lw_V q359 q360 q361 q46 q362) rfl rfl rfl (by decide +kernel) (pc_rmle (by decide) (by decide))) (pc_preV X hw [11] rfl rfl 0 11 rfl rfl rfl) rfl rfl hl.1 rfl (lv_room (Nat.le_of_ble_eq_true rfl)) dX1_reads_76 ⟨Nat.le_of_ble_eq_true rfl, Nat.le_of_ble_eq_true rfl⟩) rfl rfl rfl rfl (fun _ _ => pc_c00) (fun u_7 H locs hq hw => ?_)
          have hw : pc_S D A s.heap [(h0, .inr (9, [.ref aco, .ref ali, .ref acu, .ref a1, .ref a2, .ref apd, .ref asc, .ref fo, .int (zI (((wn : Nat) : Int))), .int (zI (((bn : Nat) : Int)))])), (aco, .inl (dA 5, 6, .inr (.inr (.inr (.inr kf))))), ((ca 0), .inr (1, [])), ((ca 1), .inr (2, [])), ((ca 2), .inr (3, [])), ((ca 3), .inr (4, [])), ((ca 4), .inr (5, [])), ((ca 5), .inr (6, [])), (apd, .inr (0, [.ref pb, .int (zI (((bs.length : Nat) : Int))), .int (ad)])), (pb, .inl (dA 0, 400, .inl fp)), (fo, .inl (dA 1, 24, .inl fd)), (sb, .inl (dA 0, 400, .inl fs)), (asc, .inr (0, [.ref sb, .int (zI 0), .int (zI 0)]))] H locs := hw
          refine lv_aload_n X.x X.b dX1_reads_79 rfl (lv_at hl 0 rfl) ?_
          refine z_get X hw in_X1 0 rfl rfl 0 (by decide) q182 rfl rfl dX1_reads_80 ?_
          refine lv_iload_n X.x X.b dX1_reads_83 rfl (lv_at hl 1 rfl) ?_
          refine z_aald X hw 1 5 2 rfl rfl (by decide) (by omega) (v := .ref (ca 2)) (congrArg va_rf (hkf 2 (by decide))) dX1_reads_84 ?_
          refine lv_aload_n X.x X.b dX1_reads_85 rfl (lv_at hl 0 rfl) ?_
          refine z_get X hw in_X1 0 rfl rfl 6 (by decide) q188 rfl rfl dX1_reads_86 ?_
          refine lv_aload_n X.x X.b dX1_reads_89 rfl (lv_at hl 0 rfl) ?_
          refine z_get X hw in_X1 0 rfl rfl 7 (by decide) q189 rfl rfl dX1_reads_90 ?_
          refine lv_iload_n X.x X.b dX1_reads_93 rfl (lv_at hl 3 rfl) ?_
          refine lv_iload_n X.x X.b dX1_reads_94 rfl (lv_at hl 2 rfl) ?_
          refine cv_v5 (c1 := 0) (s1 := 0) X hw [4, 12, 11, 10] [0, 1, 2, 3, 5, 6, 7, 8, 9] (wr := [(h0, .inr (9, [.ref aco, .ref ali, .ref acu, .ref a1, .ref a2, .ref apd, .ref asc, .ref fo, .int (zI (((wn : Nat) : Int))), .int (zI (((bn : Nat) : Int)))])), (aco, .inl (dA 5, 6, .inr (.inr (.inr (.inr kf))))), ((ca 0), .inr (1, [])), ((ca 1), .inr (2, [])), ((ca 3), .inr (4, [])), ((ca 4), .inr (5, [])), ((ca 5), .inr (6, [])), (apd, .inr (0, [.ref pb, .int (zI (((bs.length : Nat) : Int))), .int (ad)])), (pb, .inl (dA 0, 400, .inl fp))]) (va_runF (As := [.ref asc, .ref fo, .int (zI (((ys.length : Nat) : Int))), .int (zI (((k : Nat) : Int)))]) (rest := []) (pc_at X 3 rfl) X.fix (m_enc_2 l hst D dA (ca 2) asc sb fo (zI 0) ys k fs fd hvy hfa hk _) (va_cwF (x := (mn_ "PostingCodes$Code" "encode" "(LPostingCodes$Row;[SII)V")) (C := RX5) 4 X.t (lw_F q364 q425 q370 q38 q372) rfl rfl rfl (pc_nf X.N 2 rfl) (by decide +kernel) (pc_rmle (by decide) (by decide))) (pc_preV X hw [4, 12, 11, 10] rfl rfl 3 4 rfl rfl rfl) rfl rfl hl.1 rfl (lv_room (Nat.le_of_ble_eq_true rfl)) dX1_reads_95 ⟨Nat.le_of_ble_eq_true rfl, Nat.le_of_ble_eq_true rfl⟩) rfl rfl rfl rfl (fun _ _ => pc_c00) (fun u_9 H locs hq hw => ?_)
          have hw : pc_S D A s.heap [(h0, .inr (9, [.ref aco, .ref ali, .ref acu, .ref a1, .ref a2, .ref apd, .ref asc, .ref fo, .int (zI (((wn : Nat) : Int))), .int (zI (((bn : Nat) : Int)))])), (aco, .inl (dA 5, 6, .inr (.inr (.inr (.inr kf))))), ((ca 0), .inr (1, [])), ((ca 1), .inr (2, [])), ((ca 3), .inr (4, [])), ((ca 4), .inr (5, [])), ((ca 5), .inr (6, [])), (apd, .inr (0, [.ref pb, .int (zI (((bs.length : Nat) : Int))), .int (ad)])), (pb, .inl (dA 0, 400, .inl fp)), ((ca 2), .inr (3, [])), (asc, .inr (0, [.ref sb, .int (zI ((((enc 2 k ys).length : Nat) : Int))), .int (zI 0)])), (sb, .inl (dA 0, 400, .inl u_9)), (fo, .inl (dA 1, 24, .inl fd))] H locs := hw
          have he_2 : RowIs (enc 2 k ys) u_9 := hq
          refine lv_aload_n X.x X.b dX1_reads_100 rfl (lv_at hl 0 rfl) ?_
          refine z_get X hw in_X1 0 rfl rfl 6 (by decide) q188 rfl rfl dX1_reads_101 ?_
          refine lv_aload_n X.x X.b dX1_reads_104 rfl (lv_at hl 0 rfl) ?_
          refine z_get X hw in_X1 0 rfl rfl 5 (by decide) q187 rfl rfl dX1_reads_105 ?_
          refine cv_i (c1 := 0) (s1 := 0) X hw [10, 11, 7, 8] [0, 1, 2, 3, 4, 5, 6, 9, 12] (wr := [(h0, .inr (9, [.ref aco, .ref ali, .ref acu, .ref a1, .ref a2, .ref apd, .ref asc, .ref fo, .int (zI (((wn : Nat) : Int))), .int (zI (((bn : Nat) : Int)))])), (aco, .inl (dA 5, 6, .inr (.inr (.inr (.inr kf))))), ((ca 0), .inr (1, [])), ((ca 1), .inr (2, [])), ((ca 3), .inr (4, [])), ((ca 4), .inr (5, [])), ((ca 5), .inr (6, [])), ((ca 2), .inr (3, [])), (fo, .inl (dA 1, 24, .inl fd))]) (va_runV (As := [.ref apd]) (rest := []) X.fix (m_Row_same l hst D dA asc sb apd pb (zI 0) (ad) (enc 2 k ys) bs u_9 fp he_2 hf h4 (by omega) _) (cwV 1 X.t (lw_V q584 q585 q586 q46 q587) rfl rfl rfl (by decide +kernel) (pc_rmle (by decide) (by decide))) (pc_preV X hw [10, 11, 7, 8] rfl rfl 0 10 rfl rfl rfl) rfl rfl hl.1 rfl (lv_room (Nat.le_of_ble_eq_true rfl)) dX1_reads_108 ⟨Nat.le_of_ble_eq_true rfl, Nat.le_of_ble_eq_true rfl⟩) rfl rfl rfl rfl (fun _ _ _ => pc_c00) (fun r_10 u_11 H locs hq hw => ?_)
          have hw : pc_S D A s.heap [(h0, .inr (9, [.ref aco, .ref ali, .ref acu, .ref a1, .ref a2, .ref apd, .ref asc, .ref fo, .int (zI (((wn : Nat) : Int))), .int (zI (((bn : Nat) : Int)))])), (aco, .inl (dA 5, 6, .inr (.inr (.inr (.inr kf))))), ((ca 0), .inr (1, [])), ((ca 1), .inr (2, [])), ((ca 3), .inr (4, [])), ((ca 4), .inr (5, [])), ((ca 5), .inr (6, [])), ((ca 2), .inr (3, [])), (fo, .inl (dA 1, 24, .inl fd)), (asc, .inr (0, [.ref sb, .int (zI ((((enc 2 k ys).length : Nat) : Int))), .int (zI 0)])), (sb, .inl (dA 0, 400, .inl u_9)), (apd, .inr (0, [.ref pb, .int (zI (((bs.length : Nat) : Int))), .int (ad)])), (pb, .inl (dA 0, 400, .inl fp))] H locs := hw
          subst hq
          have hw : pc_S D A s.heap [(h0, .inr (9, [.ref aco, .ref ali, .ref acu, .ref a1, .ref a2, .ref apd, .ref asc, .ref fo, .int (zI (((wn : Nat) : Int))), .int (zI (((bn : Nat) : Int)))])), (aco, .inl (dA 5, 6, .inr (.inr (.inr (.inr kf))))), ((ca 0), .inr (1, [])), ((ca 1), .inr (2, [])), ((ca 2), .inr (3, [])), ((ca 3), .inr (4, [])), ((ca 4), .inr (5, [])), ((ca 5), .inr (6, [])), (apd, .inr (0, [.ref pb, .int (zI (((bs.length : Nat) : Int))), .int (ad)])), (pb, .inl (dA 0, 400, .inl fp)), (fo, .inl (dA 1, 24, .inl fd)), (asc, .inr (0, [.ref sb, .int (zI ((((enc 2 k ys).length : Nat) : Int))), .int (zI 0)])), (sb, .inl (dA 0, 400, .inl u_9))] H locs := hw.sub [0, 1, 2, 3, 7, 4, 5, 6, 11, 12, 8, 9, 10] rfl rfl
          have hgb : goodB 2 k bs ys.length = decide (enc 2 k ys = bs) := by rw [goodB_some hdec, hib, Bool.true_and]
          rw [← hgb]
          exact exit (fd, ad, u_9, zI (((enc 2 k ys).length : Nat) : Int), zI 0) dX1_reads_111 (by cases goodB 2 k bs ys.length <;> decide) ⟨rfl, fun h => by
            rw [hgb] at h
            have h := of_decide_eq_true h
            exact ⟨ys, hdec, hfa, h ▸ he_2, by rw [h]⟩⟩ hw (Nat.zero_le _) (Nat.zero_le _)
        · skip
          refine lv_aload_n X.x X.b dX1_reads_45 rfl (lv_at hl 0 rfl) ?_
          refine z_get X hw in_X1 0 rfl rfl 7 (by decide) q189 rfl rfl dX1_reads_46 ?_
          refine lv_iload X.x X.b dX1_reads_49 (lv_at hl 4 rfl) ?_
          refine z_sald X hw 10 i rfl (by decide) (by omega) (v := zI ((ys.getD i 0 : Nat) : Int)) (hfa _ (by omega)) dX1_reads_51 ?_
          refine lv_aload_n X.x X.b dX1_reads_52 rfl (lv_at hl 0 rfl) ?_
          refine z_get X hw in_X1 0 rfl rfl 7 (by decide) q189 rfl rfl dX1_reads_53 ?_
          refine lv_iload X.x X.b dX1_reads_56 (lv_at hl 4 rfl) ?_
          refine z_iconst X dX1_reads_58 ?_
          refine z_isub X dX1_reads_59 ?_
          refine z_sald X hw 10 (i - 1) rfl (by decide) (by omega) (v := zI ((ys.getD (i - 1) 0 : Nat) : Int)) (hfa _ (by omega)) dX1_reads_60 ?_
          have hx8 := hys i (by omega)
          have hx9 := hys (i - 1) (by omega)
          refine z_icmp_gt (tgt := 66) X dX1_reads_61 (by decide) (by omega) (by omega) (fun c_12 => ?_) (fun c_12 => ?_)
          · skip
            refine z_iinc (lv' := [(4, .int (zI (((i : Nat) : Int) + 1))), (0, .ref h0), (1, .int (zI (((2 : Nat) : Int)))), (2, .int (zI (((k : Nat) : Int)))), (3, .int (zI (((ys.length : Nat) : Int))))]) X dX1_reads_66 hl (k0 := 4) rfl (by decide) rfl (fun ls hl => ?_)
            have hl : lv_has ls 5 [(4, .int (zI (((i + 1 : Nat) : Int)))), (0, .ref h0), (1, .int (zI (((2 : Nat) : Int)))), (2, .int (zI (((k : Nat) : Int)))), (3, .int (zI (((ys.length : Nat) : Int))))] := by rw [show (((i + 1 : Nat) : Int) : Int) = ((i : Nat) : Int) + 1 from by omega]; exact hl
            refine lv_goto (tgt := 39) X.x X.b dX1_reads_69 (by decide) ?_
            exact ih39  (i + 1) (by omega) (Or.inl (by omega)) (fun j h => by
                by_cases e : j + 1 = i
                · rw [e, show j = i - 1 from by omega]; omega
                · exact hinc j (by omega)) (by omega) H locs hw ls (lv_sub hl [1, 2, 3, 4, 0] rfl)
          · skip
            refine z_iconst X dX1_reads_64 ?_
            have hib : incB ys = false := by
              cases h : incB ys with
              | false => rfl
              | true =>
                have := incB_iff.mp h (i - 1) (by omega)
                rw [show i - 1 + 1 = i from by omega] at this
                omega
            have hgb : goodB 2 k bs ys.length = false := by rw [goodB_some hdec, hib]; rfl
            exact exit (fd, ad, fs, tm, ta) dX1_reads_65 (by decide) ⟨by rw [hgb]; rfl, fun h => by rw [hgb] at h; cases h⟩ hw (Nat.zero_le _) (Nat.zero_le _)
    exact B39 _ 1 (Nat.le_refl _) (Or.inr rfl) (fun j h => absurd h (by omega)) (Nat.lt_succ_self _) H locs (hw.sub [0, 1, 2, 3, 9, 4, 5, 6, 10, 11, 12, 7, 8] rfl rfl) ls (lv_sub hl [1, 2, 3, 4, 0] rfl)
set_option maxHeartbeats 4000000 in
/-- reads, code 3 -/
theorem m_reads_3 (l : Launch) (hst : l.stackTraces = false) (D : va_G) (dA : Nat → ClassId) (h0 aco ali acu a1 a2 apd asc fo wn bn : Nat) (hwb : wn ≤ 1000 ∧ bn ≤ 1000) (kf : Nat → Option Nat) (ca : Nat → Nat) (hkf : ∀ c, c < 6 → kf c = some (ca c)) (sb : Nat) (tm ta : Int32) (fs : Nat → Int32) (pb : Nat) (pa : Int32) (bs : List Bool) (fp g : Nat → Int32) (hf : RowIs bs fp) (h4 : bs.length ≤ 400) (k n : Nat) (hk : k ≤ 7) (hn : n ≤ 24) : px_I (SX := Unit) l yX1_reads (wsW_ yX1_reads cX1_reads 5 (some .boolean) [(8, 29, 32, 7)]) (pc_rm 12 1 6) D dA [.ref h0, .int (zI (((3 : Nat) : Int))), .int (zI (((k : Nat) : Int))), .int (zI (((n : Nat) : Int)))] [(h0, .inr (9, [.ref aco, .ref ali, .ref acu, .ref a1, .ref a2, .ref apd, .ref asc, .ref fo, .int (zI (((wn : Nat) : Int))), .int (zI (((bn : Nat) : Int)))])), (aco, .inl (dA 5, 6, .inr (.inr (.inr (.inr kf))))), ((ca 0), .inr (1, [])), ((ca 1), .inr (2, [])), ((ca 2), .inr (3, [])), ((ca 3), .inr (4, [])), ((ca 4), .inr (5, [])), ((ca 5), .inr (6, [])), (apd, .inr (0, [.ref pb, .int (zI (((bs.length : Nat) : Int))), .int (pa)])), (pb, .inl (dA 0, 400, .inl fp)), (fo, .inl (dA 1, 24, .inl g)), (asc, .inr (0, [.ref sb, .int (tm), .int (ta)])), (sb, .inl (dA 0, 400, .inl fs))] (fun r (u : (Nat → Int32) × Int32 × (Nat → Int32) × Int32 × Int32) => r = zI ((b2n (goodB 3 k bs n) : Nat) : Int) ∧ ((goodB 3 k bs n) = true → ∃ ys, dec 3 k bs n = some ys ∧ ArrIs ys u.1 ∧ RowIs bs u.2.2.1 ∧ u.2.2.2.1 = zI ((bs.length : Nat) : Int))) (fun u : (Nat → Int32) × Int32 × (Nat → Int32) × Int32 × Int32 => [(h0, .inr (9, [.ref aco, .ref ali, .ref acu, .ref a1, .ref a2, .ref apd, .ref asc, .ref fo, .int (zI (((wn : Nat) : Int))), .int (zI (((bn : Nat) : Int)))])), (aco, .inl (dA 5, 6, .inr (.inr (.inr (.inr kf))))), ((ca 0), .inr (1, [])), ((ca 1), .inr (2, [])), ((ca 2), .inr (3, [])), ((ca 3), .inr (4, [])), ((ca 4), .inr (5, [])), ((ca 5), .inr (6, [])), (apd, .inr (0, [.ref pb, .int (zI (((bs.length : Nat) : Int))), .int (u.2.1)])), (pb, .inl (dA 0, 400, .inl fp)), (fo, .inl (dA 1, 24, .inl u.1)), (asc, .inr (0, [.ref sb, .int (u.2.2.2.1), .int (u.2.2.2.2)])), (sb, .inl (dA 0, 400, .inl u.2.2.1))]) (fun _ _ => False) (fun _ => []) := by
  refine sxh_i hst (by decide) RX1 rfl (Nat.le_of_ble_eq_true rfl) ?_
  intro pg ev s mt args below meth cd R A Q hR X htab exit H locs hw ls hl
  subst hR
  have hl : lv_has ls 5 [(0, .ref h0), (1, .int (zI (((3 : Nat) : Int)))), (2, .int (zI (((k : Nat) : Int)))), (3, .int (zI (((n : Nat) : Int))))] := hl
  refine lv_aload_n X.x X.b dX1_reads_0 rfl (lv_at hl 0 rfl) ?_
  refine z_get X hw in_X1 0 rfl rfl 5 (by decide) q187 rfl rfl dX1_reads_1 ?_
  refine z_iconst X dX1_reads_4 ?_
  refine z_put X hw in_X10 tyX10 tyX10_ok nmX10 8 rfl rfl 2 (by decide) q144 rfl rfl rfl rfl (Nat.le_of_ble_eq_true rfl) dX1_reads_5 (fun H locs hw => ?_)
  have hw : pc_S D A s.heap [(h0, .inr (9, [.ref aco, .ref ali, .ref acu, .ref a1, .ref a2, .ref apd, .ref asc, .ref fo, .int (zI (((wn : Nat) : Int))), .int (zI (((bn : Nat) : Int)))])), (aco, .inl (dA 5, 6, .inr (.inr (.inr (.inr kf))))), ((ca 0), .inr (1, [])), ((ca 1), .inr (2, [])), ((ca 2), .inr (3, [])), ((ca 3), .inr (4, [])), ((ca 4), .inr (5, [])), ((ca 5), .inr (6, [])), (apd, .inr (0, [.ref pb, .int (zI (((bs.length : Nat) : Int))), .int (zI 0)])), (pb, .inl (dA 0, 400, .inl fp)), (fo, .inl (dA 1, 24, .inl g)), (asc, .inr (0, [.ref sb, .int (tm), .int (ta)])), (sb, .inl (dA 0, 400, .inl fs))] H locs := hw
  refine lv_aload_n X.x X.b dX1_reads_8 rfl (lv_at hl 0 rfl) ?_
  refine z_get X hw in_X1 0 rfl rfl 0 (by decide) q182 rfl rfl dX1_reads_9 ?_
  refine lv_iload_n X.x X.b dX1_reads_12 rfl (lv_at hl 1 rfl) ?_
  refine z_aald X hw 1 5 3 rfl rfl (by decide) (by omega) (v := .ref (ca 3)) (congrArg va_rf (hkf 3 (by decide))) dX1_reads_13 ?_
  refine lv_aload_n X.x X.b dX1_reads_14 rfl (lv_at hl 0 rfl) ?_
  refine z_get X hw in_X1 0 rfl rfl 5 (by decide) q187 rfl rfl dX1_reads_15 ?_
  refine lv_aload_n X.x X.b dX1_reads_18 rfl (lv_at hl 0 rfl) ?_
  refine z_get X hw in_X1 0 rfl rfl 7 (by decide) q189 rfl rfl dX1_reads_19 ?_
  refine lv_iload_n X.x X.b dX1_reads_22 rfl (lv_at hl 3 rfl) ?_
  refine lv_iload_n X.x X.b dX1_reads_23 rfl (lv_at hl 2 rfl) ?_
  obtain ⟨t_1, ht_1⟩ : ∃ q : Bool, q = ((decF bs n).isNone) := ⟨_, rfl⟩
  refine cx_v5 (c1 := 0) (s1 := 0) X hw [5, 8, 9, 10] [0, 1, 2, 3, 4, 6, 7, 11, 12] (wr := [(h0, .inr (9, [.ref aco, .ref ali, .ref acu, .ref a1, .ref a2, .ref apd, .ref asc, .ref fo, .int (zI (((wn : Nat) : Int))), .int (zI (((bn : Nat) : Int)))])), (aco, .inl (dA 5, 6, .inr (.inr (.inr (.inr kf))))), ((ca 0), .inr (1, [])), ((ca 1), .inr (2, [])), ((ca 2), .inr (3, [])), ((ca 4), .inr (5, [])), ((ca 5), .inr (6, [])), (asc, .inr (0, [.ref sb, .int (tm), .int (ta)])), (sb, .inl (dA 0, 400, .inl fs))]) (vx_runF (As := [.ref apd, .ref fo, .int (zI (((n : Nat) : Int))), .int (zI (((k : Nat) : Int)))]) (rest := []) (pc_at X 4 rfl) X.fix (m_dec_3 l hst D dA (ca 3) apd pb fo bs k n fp g hf h4 hk hn t_1 ht_1 _) (va_cwF (x := (mn_ "PostingCodes$Code" "decode" "(LPostingCodes$Row;[SII)V")) (C := RX6) 4 X.t (lw_F q516 q553 q555 q42 q557) rfl rfl rfl (pc_nf X.N 9 rfl) (by decide +kernel) (pc_rmle (by decide) (by decide))) (pc_preV X hw [5, 8, 9, 10] rfl rfl 4 5 rfl rfl rfl) rfl rfl hl.1 rfl (lv_room (Nat.le_of_ble_eq_true rfl)) dX1_reads_24 pc_le1) rfl rfl rfl rfl (fun E ce q9 ux_4 H locs hq hw h1 h2 h3 => ?_) (fun u hq => pc_c0 hq.1) (fun u_3 H locs hq hw => ?_)
  · skip
    have hw : pc_S D A s.heap [(h0, .inr (9, [.ref aco, .ref ali, .ref acu, .ref a1, .ref a2, .ref apd, .ref asc, .ref fo, .int (zI (((wn : Nat) : Int))), .int (zI (((bn : Nat) : Int)))])), (aco, .inl (dA 5, 6, .inr (.inr (.inr (.inr kf))))), ((ca 0), .inr (1, [])), ((ca 1), .inr (2, [])), ((ca 2), .inr (3, [])), ((ca 4), .inr (5, [])), ((ca 5), .inr (6, [])), (asc, .inr (0, [.ref sb, .int (tm), .int (ta)])), (sb, .inl (dA 0, 400, .inl fs)), ((ca 3), .inr (4, [])), (apd, .inr (0, [.ref pb, .int (zI (((bs.length : Nat) : Int))), .int (ux_4.2)])), (pb, .inl (dA 0, 400, .inl fp)), (fo, .inl (dA 1, 24, .inl ux_4.1))] H locs := hw
    obtain ⟨rfl, htt⟩ := hq
    refine pc_catch (hh := [(8, 29, 32, 7)]) (pre := []) (q := (8, 29, 32, 7)) (suf := []) (E := xIAE) (nm := xIAE) X htab rfl (by decide) (by decide) q312 (by decide) (fun _ h => nomatch h) h1 h2 h3 ?_
    refine lv_astore (lv' := [(4, .ref q9), (0, .ref h0), (1, .int (zI (((3 : Nat) : Int)))), (2, .int (zI (((k : Nat) : Int)))), (3, .int (zI (((n : Nat) : Int))))]) X.x X.b dX1_reads_32 hl (by decide) rfl (fun ls hl => ?_)
    refine z_iconst X dX1_reads_34 ?_
    have hw : pc_S D A s.heap [(h0, .inr (9, [.ref aco, .ref ali, .ref acu, .ref a1, .ref a2, .ref apd, .ref asc, .ref fo, .int (zI (((wn : Nat) : Int))), .int (zI (((bn : Nat) : Int)))])), (aco, .inl (dA 5, 6, .inr (.inr (.inr (.inr kf))))), ((ca 0), .inr (1, [])), ((ca 1), .inr (2, [])), ((ca 2), .inr (3, [])), ((ca 3), .inr (4, [])), ((ca 4), .inr (5, [])), ((ca 5), .inr (6, [])), (apd, .inr (0, [.ref pb, .int (zI (((bs.length : Nat) : Int))), .int (ux_4.2)])), (pb, .inl (dA 0, 400, .inl fp)), (fo, .inl (dA 1, 24, .inl ux_4.1)), (asc, .inr (0, [.ref sb, .int (tm), .int (ta)])), (sb, .inl (dA 0, 400, .inl fs))] H locs := hw.sub [0, 1, 2, 3, 4, 9, 5, 6, 10, 11, 12, 7, 8] rfl rfl
    have hno : dec 3 k bs n = none := by
      show Option.map _ _ = _
      rw [ht_1] at htt
      rw [Option.isNone_iff_eq_none.mp htt]; rfl
    exact exit (ux_4.1, ux_4.2, fs, tm, ta) dX1_reads_35 (by decide) ⟨by rw [goodB_none hno]; rfl, fun h => by rw [goodB_none hno] at h; cases h⟩ hw pc_le1.1 pc_le1.2
  · skip
    obtain ⟨fd, ad⟩ := u_3
    have hw : pc_S D A s.heap [(h0, .inr (9, [.ref aco, .ref ali, .ref acu, .ref a1, .ref a2, .ref apd, .ref asc, .ref fo, .int (zI (((wn : Nat) : Int))), .int (zI (((bn : Nat) : Int)))])), (aco, .inl (dA 5, 6, .inr (.inr (.inr (.inr kf))))), ((ca 0), .inr (1, [])), ((ca 1), .inr (2, [])), ((ca 2), .inr (3, [])), ((ca 4), .inr (5, [])), ((ca 5), .inr (6, [])), (asc, .inr (0, [.ref sb, .int (tm), .int (ta)])), (sb, .inl (dA 0, 400, .inl fs)), ((ca 3), .inr (4, [])), (apd, .inr (0, [.ref pb, .int (zI (((bs.length : Nat) : Int))), .int (ad)])), (pb, .inl (dA 0, 400, .inl fp)), (fo, .inl (dA 1, 24, .inl fd))] H locs := hw
    obtain ⟨hq, ys, qq, hd, hfa⟩ := hq
    have hdec : dec 3 k bs n = some ys := by
      show Option.map _ _ = _
      rw [hd]; rfl
    dsimp only at hfa
    obtain ⟨hyl, hys⟩ := dec_spec hn hdec
    subst hyl
    refine lv_goto (tgt := 36) X.x X.b dX1_reads_29 (by decide) ?_
    refine z_iconst X dX1_reads_36 ?_
    refine lv_istore (lv' := [(4, .int (zI 1)), (0, .ref h0), (1, .int (zI (((3 : Nat) : Int)))), (2, .int (zI (((k : Nat) : Int)))), (3, .int (zI (((ys.length : Nat) : Int))))]) X.x X.b dX1_reads_37 hl (by decide) rfl (fun ls hl => ?_)
    have B39 : ∀ (NN : Nat) (i : Nat) (hi1 : 1 ≤ i) (hi2 : i ≤ ys.length ∨ i = 1) (hinc : ∀ j, j + 1 < i → ys.getD j 0 < ys.getD (j + 1) 0) (hNN : 30 - i < NN) (H : Heap) (locs : List Loc), pc_S D A s.heap [(h0, .inr (9, [.ref aco, .ref ali, .ref acu, .ref a1, .ref a2, .ref apd, .ref asc, .ref fo, .int (zI (((wn : Nat) : Int))), .int (zI (((bn : Nat) : Int)))])), (aco, .inl (dA 5, 6, .inr (.inr (.inr (.inr kf))))), ((ca 0), .inr (1, [])), ((ca 1), .inr (2, [])), ((ca 2), .inr (3, [])), ((ca 3), .inr (4, [])), ((ca 4), .inr (5, [])), ((ca 5), .inr (6, [])), (apd, .inr (0, [.ref pb, .int (zI (((bs.length : Nat) : Int))), .int (ad)])), (pb, .inl (dA 0, 400, .inl fp)), (fo, .inl (dA 1, 24, .inl fd)), (asc, .inr (0, [.ref sb, .int (tm), .int (ta)])), (sb, .inl (dA 0, 400, .inl fs))] H locs → ∀ ls : Array Slot, lv_has ls 5 [(0, .ref h0), (1, .int (zI (((3 : Nat) : Int)))), (2, .int (zI (((k : Nat) : Int)))), (3, .int (zI (((ys.length : Nat) : Int)))), (4, .int (zI (((i : Nat) : Int))))] → W pg l ev (pc_rm 12 1 6) s mt args below meth cd H locs 0 0 Q (F0 mt 39 ls []) := by
      intro NN
      induction NN with
      | zero => intro i hi1 hi2 hinc hNN; exact absurd hNN (Nat.not_lt_zero _)
      | succ NN ih39 =>
        intro i hi1 hi2 hinc hNN H locs hw ls hl
        refine lv_iload X.x X.b dX1_reads_39 (lv_at hl 4 rfl) ?_
        refine lv_iload_n X.x X.b dX1_reads_41 rfl (lv_at hl 3 rfl) ?_
        refine z_icmp_ge (tgt := 72) X dX1_reads_42 (by decide) (by omega) (by omega) (fun c_5 => ?_) (fun c_5 => ?_)
        · skip
          have hib : incB ys = true := incB_iff.mpr (fun j hj => hinc j (by omega))
          have hvy := valid_of hn hys hib
          have hel := enc_len (c := 3) hvy hk
          refine lv_aload_n X.x X.b dX1_reads_72 rfl (lv_at hl 0 rfl) ?_
          refine z_get X hw in_X1 0 rfl rfl 6 (by decide) q188 rfl rfl dX1_reads_73 ?_
          refine cv_v (c1 := 0) (s1 := 0) X hw [11] [0, 1, 2, 3, 4, 5, 6, 7, 8, 9, 10, 12] (wr := [(h0, .inr (9, [.ref aco, .ref ali, .ref acu, .ref a1, .ref a2, .ref apd, .ref asc, .ref fo, .int (zI (((wn : Nat) : Int))), .int (zI (((bn : Nat) : Int)))])), (aco, .inl (dA 5, 6, .inr (.inr (.inr (.inr kf))))), ((ca 0), .inr (1, [])), ((ca 1), .inr (2, [])), ((ca 2), .inr (3, [])), ((ca 3), .inr (4, [])), ((ca 4), .inr (5, [])), ((ca 5), .inr (6, [])), (apd, .inr (0, [.ref pb, .int (zI (((bs.length : Nat) : Int))), .int (ad)])), (pb, .inl (dA 0, 400, .inl fp)), (fo, .inl (dA 1, 24, .inl fd)), (sb, .inl (dA 0, 400, .inl fs))]) (va_runV (As := []) (rest := []) X.fix (m_Row_begin l hst D dA asc sb (tm) (ta) _) (cwV 0 X.t (lw_V q359 q360 q361 q46 q362) rfl rfl rfl (by decide +kernel) (pc_rmle (by decide) (by decide))) (pc_preV X hw [11] rfl rfl 0 11 rfl rfl rfl) rfl rfl hl.1 rfl (lv_room (Nat.le_of_ble_eq_true rfl)) dX1_reads_76 ⟨Nat.le_of_ble_eq_true rfl, Nat.le_of_ble_eq_true rfl⟩) rfl rfl rfl rfl (fun _ _ => pc_c00) (fun u_7 H locs hq hw => ?_)
          have hw : pc_S D A s.heap [(h0, .inr (9, [.ref aco, .ref ali, .ref acu, .ref a1, .ref a2, .ref apd, .ref asc, .ref fo, .int (zI (((wn : Nat) : Int))), .int (zI (((bn : Nat) : Int)))])), (aco, .inl (dA 5, 6, .inr (.inr (.inr (.inr kf))))), ((ca 0), .inr (1, [])), ((ca 1), .inr (2, [])), ((ca 2), .inr (3, [])), ((ca 3), .inr (4, [])), ((ca 4), .inr (5, [])), ((ca 5), .inr (6, [])), (apd, .inr (0, [.ref pb, .int (zI (((bs.length : Nat) : Int))), .int (ad)])), (pb, .inl (dA 0, 400, .inl fp)), (fo, .inl (dA 1, 24, .inl fd)), (sb, .inl (dA 0, 400, .inl fs)), (asc, .inr (0, [.ref sb, .int (zI 0), .int (zI 0)]))] H locs := hw
          refine lv_aload_n X.x X.b dX1_reads_79 rfl (lv_at hl 0 rfl) ?_
          refine z_get X hw in_X1 0 rfl rfl 0 (by decide) q182 rfl rfl dX1_reads_80 ?_
          refine lv_iload_n X.x X.b dX1_reads_83 rfl (lv_at hl 1 rfl) ?_
          refine z_aald X hw 1 5 3 rfl rfl (by decide) (by omega) (v := .ref (ca 3)) (congrArg va_rf (hkf 3 (by decide))) dX1_reads_84 ?_
          refine lv_aload_n X.x X.b dX1_reads_85 rfl (lv_at hl 0 rfl) ?_
          refine z_get X hw in_X1 0 rfl rfl 6 (by decide) q188 rfl rfl dX1_reads_86 ?_
          refine lv_aload_n X.x X.b dX1_reads_89 rfl (lv_at hl 0 rfl) ?_
          refine z_get X hw in_X1 0 rfl rfl 7 (by decide) q189 rfl rfl dX1_reads_90 ?_
          refine lv_iload_n X.x X.b dX1_reads_93 rfl (lv_at hl 3 rfl) ?_
          refine lv_iload_n X.x X.b dX1_reads_94 rfl (lv_at hl 2 rfl) ?_
          refine cv_v5 (c1 := 0) (s1 := 0) X hw [5, 12, 11, 10] [0, 1, 2, 3, 4, 6, 7, 8, 9] (wr := [(h0, .inr (9, [.ref aco, .ref ali, .ref acu, .ref a1, .ref a2, .ref apd, .ref asc, .ref fo, .int (zI (((wn : Nat) : Int))), .int (zI (((bn : Nat) : Int)))])), (aco, .inl (dA 5, 6, .inr (.inr (.inr (.inr kf))))), ((ca 0), .inr (1, [])), ((ca 1), .inr (2, [])), ((ca 2), .inr (3, [])), ((ca 4), .inr (5, [])), ((ca 5), .inr (6, [])), (apd, .inr (0, [.ref pb, .int (zI (((bs.length : Nat) : Int))), .int (ad)])), (pb, .inl (dA 0, 400, .inl fp))]) (va_runF (As := [.ref asc, .ref fo, .int (zI (((ys.length : Nat) : Int))), .int (zI (((k : Nat) : Int)))]) (rest := []) (pc_at X 4 rfl) X.fix (m_enc_3 l hst D dA (ca 3) asc sb fo (zI 0) ys k fs fd hvy hfa _) (va_cwF (x := (mn_ "PostingCodes$Code" "encode" "(LPostingCodes$Row;[SII)V")) (C := RX6) 4 X.t (lw_F q364 q395 q397 q42 q399) rfl rfl rfl (pc_nf X.N 3 rfl) (by decide +kernel) (pc_rmle (by decide) (by decide))) (pc_preV X hw [5, 12, 11, 10] rfl rfl 4 5 rfl rfl rfl) rfl rfl hl.1 rfl (lv_room (Nat.le_of_ble_eq_true rfl)) dX1_reads_95 ⟨Nat.le_of_ble_eq_true rfl, Nat.le_of_ble_eq_true rfl⟩) rfl rfl rfl rfl (fun _ _ => pc_c00) (fun u_9 H locs hq hw => ?_)
          have hw : pc_S D A s.heap [(h0, .inr (9, [.ref aco, .ref ali, .ref acu, .ref a1, .ref a2, .ref apd, .ref asc, .ref fo, .int (zI (((wn : Nat) : Int))), .int (zI (((bn : Nat) : Int)))])), (aco, .inl (dA 5, 6, .inr (.inr (.inr (.inr kf))))), ((ca 0), .inr (1, [])), ((ca 1), .inr (2, [])), ((ca 2), .inr (3, [])), ((ca 4), .inr (5, [])), ((ca 5), .inr (6, [])), (apd, .inr (0, [.ref pb, .int (zI (((bs.length : Nat) : Int))), .int (ad)])), (pb, .inl (dA 0, 400, .inl fp)), ((ca 3), .inr (4, [])), (asc, .inr (0, [.ref sb, .int (zI ((((enc 3 k ys).length : Nat) : Int))), .int (zI 0)])), (sb, .inl (dA 0, 400, .inl u_9)), (fo, .inl (dA 1, 24, .inl fd))] H locs := hw
          have he_3 : RowIs (enc 3 k ys) u_9 := hq
          refine lv_aload_n X.x X.b dX1_reads_100 rfl (lv_at hl 0 rfl) ?_
          refine z_get X hw in_X1 0 rfl rfl 6 (by decide) q188 rfl rfl dX1_reads_101 ?_
          refine lv_aload_n X.x X.b dX1_reads_104 rfl (lv_at hl 0 rfl) ?_
          refine z_get X hw in_X1 0 rfl rfl 5 (by decide) q187 rfl rfl dX1_reads_105 ?_
          refine cv_i (c1 := 0) (s1 := 0) X hw [10, 11, 7, 8] [0, 1, 2, 3, 4, 5, 6, 9, 12] (wr := [(h0, .inr (9, [.ref aco, .ref ali, .ref acu, .ref a1, .ref a2, .ref apd, .ref asc, .ref fo, .int (zI (((wn : Nat) : Int))), .int (zI (((bn : Nat) : Int)))])), (aco, .inl (dA 5, 6, .inr (.inr (.inr (.inr kf))))), ((ca 0), .inr (1, [])), ((ca 1), .inr (2, [])), ((ca 2), .inr (3, [])), ((ca 4), .inr (5, [])), ((ca 5), .inr (6, [])), ((ca 3), .inr (4, [])), (fo, .inl (dA 1, 24, .inl fd))]) (va_runV (As := [.ref apd]) (rest := []) X.fix (m_Row_same l hst D dA asc sb apd pb (zI 0) (ad) (enc 3 k ys) bs u_9 fp he_3 hf h4 (by omega) _) (cwV 1 X.t (lw_V q584 q585 q586 q46 q587) rfl rfl rfl (by decide +kernel) (pc_rmle (by decide) (by decide))) (pc_preV X hw [10, 11, 7, 8] rfl rfl 0 10 rfl rfl rfl) rfl rfl hl.1 rfl (lv_room (Nat.le_of_ble_eq_true rfl)) dX1_reads_108 ⟨Nat.le_of_ble_eq_true rfl, Nat.le_of_ble_eq_true rfl⟩) rfl rfl rfl rfl (fun _ _ _ => pc_c00) (fun r_10 u_11 H locs hq hw => ?_)
          have hw : pc_S D A s.heap [(h0, .inr (9, [.ref aco, .ref ali, .ref acu, .ref a1, .ref a2, .ref apd, .ref asc, .ref fo, .int (zI (((wn : Nat) : Int))), .int (zI (((bn : Nat) : Int)))])), (aco, .inl (dA 5, 6, .inr (.inr (.inr (.inr kf))))), ((ca 0), .inr (1, [])), ((ca 1), .inr (2, [])), ((ca 2), .inr (3, [])), ((ca 4), .inr (5, [])), ((ca 5), .inr (6, [])), ((ca 3), .inr (4, [])), (fo, .inl (dA 1, 24, .inl fd)), (asc, .inr (0, [.ref sb, .int (zI ((((enc 3 k ys).length : Nat) : Int))), .int (zI 0)])), (sb, .inl (dA 0, 400, .inl u_9)), (apd, .inr (0, [.ref pb, .int (zI (((bs.length : Nat) : Int))), .int (ad)])), (pb, .inl (dA 0, 400, .inl fp))] H locs := hw
          subst hq
          have hw : pc_S D A s.heap [(h0, .inr (9, [.ref aco, .ref ali, .ref acu, .ref a1, .ref a2, .ref apd, .ref asc, .ref fo, .int (zI (((wn : Nat) : Int))), .int (zI (((bn : Nat) : Int)))])), (aco, .inl (dA 5, 6, .inr (.inr (.inr (.inr kf))))), ((ca 0), .inr (1, [])), ((ca 1), .inr (2, [])), ((ca 2), .inr (3, [])), ((ca 3), .inr (4, [])), ((ca 4), .inr (5, [])), ((ca 5), .inr (6, [])), (apd, .inr (0, [.ref pb, .int (zI (((bs.length : Nat) : Int))), .int (ad)])), (pb, .inl (dA 0, 400, .inl fp)), (fo, .inl (dA 1, 24, .inl fd)), (asc, .inr (0, [.ref sb, .int (zI ((((enc 3 k ys).length : Nat) : Int))), .int (zI 0)])), (sb, .inl (dA 0, 400, .inl u_9))] H locs := hw.sub [0, 1, 2, 3, 4, 7, 5, 6, 11, 12, 8, 9, 10] rfl rfl
          have hgb : goodB 3 k bs ys.length = decide (enc 3 k ys = bs) := by rw [goodB_some hdec, hib, Bool.true_and]
          rw [← hgb]
          exact exit (fd, ad, u_9, zI (((enc 3 k ys).length : Nat) : Int), zI 0) dX1_reads_111 (by cases goodB 3 k bs ys.length <;> decide) ⟨rfl, fun h => by
            rw [hgb] at h
            have h := of_decide_eq_true h
            exact ⟨ys, hdec, hfa, h ▸ he_3, by rw [h]⟩⟩ hw (Nat.zero_le _) (Nat.zero_le _)
        · skip
          refine lv_aload_n X.x X.b dX1_reads_45 rfl (lv_at hl 0 rfl) ?_
          refine z_get X hw in_X1 0 rfl rfl 7 (by decide) q189 rfl rfl dX1_reads_46 ?_
          refine lv_iload X.x X.b dX1_reads_49 (lv_at hl 4 rfl) ?_
          refine z_sald X hw 10 i rfl (by decide) (by omega) (v := zI ((ys.getD i 0 : Nat) : Int)) (hfa _ (by omega)) dX1_reads_51 ?_
          refine lv_aload_n X.x X.b dX1_reads_52 rfl (lv_at hl 0 rfl) ?_
          refine z_get X hw in_X1 0 rfl rfl 7 (by decide) q189 rfl rfl dX1_reads_53 ?_
          refine lv_iload X.x X.b dX1_reads_56 (lv_at hl 4 rfl) ?_
          refine z_iconst X dX1_reads_58 ?_
          refine z_isub X dX1_reads_59 ?_
          refine z_sald X hw 10 (i - 1) rfl (by decide) (by omega) (v := zI ((ys.getD (i - 1) 0 : Nat) : Int)) (hfa _ (by omega)) dX1_reads_60 ?_
          have hx8 := hys i (by omega)
          have hx9 := hys (i - 1) (by omega)
          refine z_icmp_gt (tgt := 66) X dX1_reads_61 (by decide) (by omega) (by omega) (fun c_12 => ?_) (fun c_12 => ?_)
          · skip
            refine z_iinc (lv' := [(4, .int (zI (((i : Nat) : Int) + 1))), (0, .ref h0), (1, .int (zI (((3 : Nat) : Int)))), (2, .int (zI (((k : Nat) : Int)))), (3, .int (zI (((ys.length : Nat) : Int))))]) X dX1_reads_66 hl (k0 := 4) rfl (by decide) rfl (fun ls hl => ?_)
            have hl : lv_has ls 5 [(4, .int (zI (((i + 1 : Nat) : Int)))), (0, .ref h0), (1, .int (zI (((3 : Nat) : Int)))), (2, .int (zI (((k : Nat) : Int)))), (3, .int (zI (((ys.length : Nat) : Int))))] := by rw [show (((i + 1 : Nat) : Int) : Int) = ((i : Nat) : Int) + 1 from by omega]; exact hl
            refine lv_goto (tgt := 39) X.x X.b dX1_reads_69 (by decide) ?_
            exact ih39  (i + 1) (by omega) (Or.inl (by omega)) (fun j h => by
                by_cases e : j + 1 = i
                · rw [e, show j = i - 1 from by omega]; omega
                · exact hinc j (by omega)) (by omega) H locs hw ls (lv_sub hl [1, 2, 3, 4, 0] rfl)
          · skip
            refine z_iconst X dX1_reads_64 ?_
            have hib : incB ys = false := by
              cases h : incB ys with
              | false => rfl
              | true =>
                have := incB_iff.mp h (i - 1) (by omega)
                rw [show i - 1 + 1 = i from by omega] at this
                omega
            have hgb : goodB 3 k bs ys.length = false := by rw [goodB_some hdec, hib]; rfl
            exact exit (fd, ad, fs, tm, ta) dX1_reads_65 (by decide) ⟨by rw [hgb]; rfl, fun h => by rw [hgb] at h; cases h⟩ hw (Nat.zero_le _) (Nat.zero_le _)
    exact B39 _ 1 (Nat.le_refl _) (Or.inr rfl) (fun j h => absurd h (by omega)) (Nat.lt_succ_self _) H locs (hw.sub [0, 1, 2, 3, 4, 9, 5, 6, 10, 11, 12, 7, 8] rfl rfl) ls (lv_sub hl [1, 2, 3, 4, 0] rfl)
set_option maxHeartbeats 4000000 in
/-- reads, code 4 -/
theorem m_reads_4 (l : Launch) (hst : l.stackTraces = false) (D : va_G) (dA : Nat → ClassId) (h0 aco ali acu a1 a2 apd asc fo wn bn : Nat) (hwb : wn ≤ 1000 ∧ bn ≤ 1000) (kf : Nat → Option Nat) (ca : Nat → Nat) (hkf : ∀ c, c < 6 → kf c = some (ca c)) (sb : Nat) (tm ta : Int32) (fs : Nat → Int32) (pb : Nat) (pa : Int32) (bs : List Bool) (fp g : Nat → Int32) (hf : RowIs bs fp) (h4 : bs.length ≤ 400) (k n : Nat) (hk : k ≤ 7) (hn : n ≤ 24) : px_I (SX := Unit) l yX1_reads (wsW_ yX1_reads cX1_reads 5 (some .boolean) [(8, 29, 32, 7)]) (pc_rm 12 1 6) D dA [.ref h0, .int (zI (((4 : Nat) : Int))), .int (zI (((k : Nat) : Int))), .int (zI (((n : Nat) : Int)))] [(h0, .inr (9, [.ref aco, .ref ali, .ref acu, .ref a1, .ref a2, .ref apd, .ref asc, .ref fo, .int (zI (((wn : Nat) : Int))), .int (zI (((bn : Nat) : Int)))])), (aco, .inl (dA 5, 6, .inr (.inr (.inr (.inr kf))))), ((ca 0), .inr (1, [])), ((ca 1), .inr (2, [])), ((ca 2), .inr (3, [])), ((ca 3), .inr (4, [])), ((ca 4), .inr (5, [])), ((ca 5), .inr (6, [])), (apd, .inr (0, [.ref pb, .int (zI (((bs.length : Nat) : Int))), .int (pa)])), (pb, .inl (dA 0, 400, .inl fp)), (fo, .inl (dA 1, 24, .inl g)), (asc, .inr (0, [.ref sb, .int (tm), .int (ta)])), (sb, .inl (dA 0, 400, .inl fs))] (fun r (u : (Nat → Int32) × Int32 × (Nat → Int32) × Int32 × Int32) => r = zI ((b2n (goodB 4 k bs n) : Nat) : Int) ∧ ((goodB 4 k bs n) = true → ∃ ys, dec 4 k bs n = some ys ∧ ArrIs ys u.1 ∧ RowIs bs u.2.2.1 ∧ u.2.2.2.1 = zI ((bs.length : Nat) : Int))) (fun u : (Nat → Int32) × Int32 × (Nat → Int32) × Int32 × Int32 => [(h0, .inr (9, [.ref aco, .ref ali, .ref acu, .ref a1, .ref a2, .ref apd, .ref asc, .ref fo, .int (zI (((wn : Nat) : Int))), .int (zI (((bn : Nat) : Int)))])), (aco, .inl (dA 5, 6, .inr (.inr (.inr (.inr kf))))), ((ca 0), .inr (1, [])), ((ca 1), .inr (2, [])), ((ca 2), .inr (3, [])), ((ca 3), .inr (4, [])), ((ca 4), .inr (5, [])), ((ca 5), .inr (6, [])), (apd, .inr (0, [.ref pb, .int (zI (((bs.length : Nat) : Int))), .int (u.2.1)])), (pb, .inl (dA 0, 400, .inl fp)), (fo, .inl (dA 1, 24, .inl u.1)), (asc, .inr (0, [.ref sb, .int (u.2.2.2.1), .int (u.2.2.2.2)])), (sb, .inl (dA 0, 400, .inl u.2.2.1))]) (fun _ _ => False) (fun _ => []) := by
  refine sxh_i hst (by decide) RX1 rfl (Nat.le_of_ble_eq_true rfl) ?_
  intro pg ev s mt args below meth cd R A Q hR X htab exit H locs hw ls hl
  subst hR
  have hl : lv_has ls 5 [(0, .ref h0), (1, .int (zI (((4 : Nat) : Int)))), (2, .int (zI (((k : Nat) : Int)))), (3, .int (zI (((n : Nat) : Int))))] := hl
  refine lv_aload_n X.x X.b dX1_reads_0 rfl (lv_at hl 0 rfl) ?_
  refine z_get X hw in_X1 0 rfl rfl 5 (by decide) q187 rfl rfl dX1_reads_1 ?_
  refine z_iconst X dX1_reads_4 ?_
  refine z_put X hw in_X10 tyX10 tyX10_ok nmX10 8 rfl rfl 2 (by decide) q144 rfl rfl rfl rfl (Nat.le_of_ble_eq_true rfl) dX1_reads_5 (fun H locs hw => ?_)
  have hw : pc_S D A s.heap [(h0, .inr (9, [.ref aco, .ref ali, .ref acu, .ref a1, .ref a2, .ref apd, .ref asc, .ref fo, .int (zI (((wn : Nat) : Int))), .int (zI (((bn : Nat) : Int)))])), (aco, .inl (dA 5, 6, .inr (.inr (.inr (.inr kf))))), ((ca 0), .inr (1, [])), ((ca 1), .inr (2, [])), ((ca 2), .inr (3, [])), ((ca 3), .inr (4, [])), ((ca 4), .inr (5, [])), ((ca 5), .inr (6, [])), (apd, .inr (0, [.ref pb, .int (zI (((bs.length : Nat) : Int))), .int (zI 0)])), (pb, .inl (dA 0, 400, .inl fp)), (fo, .inl (dA 1, 24, .inl g)), (asc, .inr (0, [.ref sb, .int (tm), .int (ta)])), (sb, .inl (dA 0, 400, .inl fs))] H locs := hw
  refine lv_aload_n X.x X.b dX1_reads_8 rfl (lv_at hl 0 rfl) ?_
  refine z_get X hw in_X1 0 rfl rfl 0 (by decide) q182 rfl rfl dX1_reads_9 ?_
  refine lv_iload_n X.x X.b dX1_reads_12 rfl (lv_at hl 1 rfl) ?_
  refine z_aald X hw 1 5 4 rfl rfl (by decide) (by omega) (v := .ref (ca 4)) (congrArg va_rf (hkf 4 (by decide))) dX1_reads_13 ?_
  refine lv_aload_n X.x X.b dX1_reads_14 rfl (lv_at hl 0 rfl) ?_
  refine z_get X hw in_X1 0 rfl rfl 5 (by decide) q187 rfl rfl dX1_reads_15 ?_
  refine lv_aload_n X.x X.b dX1_reads_18 rfl (lv_at hl 0 rfl) ?_
  refine z_get X hw in_X1 0 rfl rfl 7 (by decide) q189 rfl rfl dX1_reads_19 ?_
  refine lv_iload_n X.x X.b dX1_reads_22 rfl (lv_at hl 3 rfl) ?_
  refine lv_iload_n X.x X.b dX1_reads_23 rfl (lv_at hl 2 rfl) ?_
  obtain ⟨t_1, ht_1⟩ : ∃ q : Bool, q = ((decS bs n n).isNone) := ⟨_, rfl⟩
  refine cx_v5 (c1 := 0) (s1 := 0) X hw [6, 8, 9, 10] [0, 1, 2, 3, 4, 5, 7, 11, 12] (wr := [(h0, .inr (9, [.ref aco, .ref ali, .ref acu, .ref a1, .ref a2, .ref apd, .ref asc, .ref fo, .int (zI (((wn : Nat) : Int))), .int (zI (((bn : Nat) : Int)))])), (aco, .inl (dA 5, 6, .inr (.inr (.inr (.inr kf))))), ((ca 0), .inr (1, [])), ((ca 1), .inr (2, [])), ((ca 2), .inr (3, [])), ((ca 3), .inr (4, [])), ((ca 5), .inr (6, [])), (asc, .inr (0, [.ref sb, .int (tm), .int (ta)])), (sb, .inl (dA 0, 400, .inl fs))]) (vx_runF (As := [.ref apd, .ref fo, .int (zI (((n : Nat) : Int))), .int (zI (((k : Nat) : Int)))]) (rest := []) (pc_at X 5 rfl) X.fix (m_dec_4 l hst D dA (ca 4) apd pb fo bs k n fp g hf h4 hk hn t_1 ht_1 _) (va_cwF (x := (mn_ "PostingCodes$Code" "decode" "(LPostingCodes$Row;[SII)V")) (C := RX7) 4 X.t (lw_F q516 q576 q578 q43 q580) rfl rfl rfl (pc_nf X.N 10 rfl) (by decide +kernel) (pc_rmle (by decide) (by decide))) (pc_preV X hw [6, 8, 9, 10] rfl rfl 5 6 rfl rfl rfl) rfl rfl hl.1 rfl (lv_room (Nat.le_of_ble_eq_true rfl)) dX1_reads_24 pc_le1) rfl rfl rfl rfl (fun E ce q9 ux_4 H locs hq hw h1 h2 h3 => ?_) (fun u hq => pc_c0 hq.1) (fun u_3 H locs hq hw => ?_)
  · skip
    have hw : pc_S D A s.heap [(h0, .inr (9, [.ref aco, .ref ali, .ref acu, .ref a1, .ref a2, .ref apd, .ref asc, .ref fo, .int (zI (((wn : Nat) : Int))), .int (zI (((bn : Nat) : Int)))])), (aco, .inl (dA 5, 6, .inr (.inr (.inr (.inr kf))))), ((ca 0), .inr (1, [])), ((ca 1), .inr (2, [])), ((ca 2), .inr (3, [])), ((ca 3), .inr (4, [])), ((ca 5), .inr (6, [])), (asc, .inr (0, [.ref sb, .int (tm), .int (ta)])), (sb, .inl (dA 0, 400, .inl fs)), ((ca 4), .inr (5, [])), (apd, .inr (0, [.ref pb, .int (zI (((bs.length : Nat) : Int))), .int (ux_4.2)])), (pb, .inl (dA 0, 400, .inl fp)), (fo, .inl (dA 1, 24, .inl ux_4.1))] H locs := hw
    obtain ⟨rfl, htt⟩ := hq
    refine pc_catch (hh := [(8, 29, 32, 7)]) (pre := []) (q := (8, 29, 32, 7)) (suf := []) (E := xIAE) (nm := xIAE) X htab rfl (by decide) (by decide) q312 (by decide) (fun _ h => nomatch h) h1 h2 h3 ?_
    refine lv_astore (lv' := [(4, .ref q9), (0, .ref h0), (1, .int (zI (((4 : Nat) : Int)))), (2, .int (zI (((k : Nat) : Int)))), (3, .int (zI (((n : Nat) : Int))))]) X.x X.b dX1_reads_32 hl (by decide) rfl (fun ls hl => ?_)
    refine z_iconst X dX1_reads_34 ?_
    have hw : pc_S D A s.heap [(h0, .inr (9, [.ref aco, .ref ali, .ref acu, .ref a1, .ref a2, .ref apd, .ref asc, .ref fo, .int (zI (((wn : Nat) : Int))), .int (zI (((bn : Nat) : Int)))])), (aco, .inl (dA 5, 6, .inr (.inr (.inr (.inr kf))))), ((ca 0), .inr (1, [])), ((ca 1), .inr (2, [])), ((ca 2), .inr (3, [])), ((ca 3), .inr (4, [])), ((ca 4), .inr (5, [])), ((ca 5), .inr (6, [])), (apd, .inr (0, [.ref pb, .int (zI (((bs.length : Nat) : Int))), .int (ux_4.2)])), (pb, .inl (dA 0, 400, .inl fp)), (fo, .inl (dA 1, 24, .inl ux_4.1)), (asc, .inr (0, [.ref sb, .int (tm), .int (ta)])), (sb, .inl (dA 0, 400, .inl fs))] H locs := hw.sub [0, 1, 2, 3, 4, 5, 9, 6, 10, 11, 12, 7, 8] rfl rfl
    have hno : dec 4 k bs n = none := by
      show Option.map _ _ = _
      rw [ht_1] at htt
      rw [Option.isNone_iff_eq_none.mp htt]; rfl
    exact exit (ux_4.1, ux_4.2, fs, tm, ta) dX1_reads_35 (by decide) ⟨by rw [goodB_none hno]; rfl, fun h => by rw [goodB_none hno] at h; cases h⟩ hw pc_le1.1 pc_le1.2
  · skip
    obtain ⟨fd, ad⟩ := u_3
    have hw : pc_S D A s.heap [(h0, .inr (9, [.ref aco, .ref ali, .ref acu, .ref a1, .ref a2, .ref apd, .ref asc, .ref fo, .int (zI (((wn : Nat) : Int))), .int (zI (((bn : Nat) : Int)))])), (aco, .inl (dA 5, 6, .inr (.inr (.inr (.inr kf))))), ((ca 0), .inr (1, [])), ((ca 1), .inr (2, [])), ((ca 2), .inr (3, [])), ((ca 3), .inr (4, [])), ((ca 5), .inr (6, [])), (asc, .inr (0, [.ref sb, .int (tm), .int (ta)])), (sb, .inl (dA 0, 400, .inl fs)), ((ca 4), .inr (5, [])), (apd, .inr (0, [.ref pb, .int (zI (((bs.length : Nat) : Int))), .int (ad)])), (pb, .inl (dA 0, 400, .inl fp)), (fo, .inl (dA 1, 24, .inl fd))] H locs := hw
    obtain ⟨hq, ys, qq, hd, hfa⟩ := hq
    have hdec : dec 4 k bs n = some ys := by
      show Option.map _ _ = _
      rw [hd]; rfl
    dsimp only at hfa
    obtain ⟨hyl, hys⟩ := dec_spec hn hdec
    subst hyl
    refine lv_goto (tgt := 36) X.x X.b dX1_reads_29 (by decide) ?_
    refine z_iconst X dX1_reads_36 ?_
    refine lv_istore (lv' := [(4, .int (zI 1)), (0, .ref h0), (1, .int (zI (((4 : Nat) : Int)))), (2, .int (zI (((k : Nat) : Int)))), (3, .int (zI (((ys.length : Nat) : Int))))]) X.x X.b dX1_reads_37 hl (by decide) rfl (fun ls hl => ?_)
    have B39 : ∀ (NN : Nat) (i : Nat) (hi1 : 1 ≤ i) (hi2 : i ≤ ys.length ∨ i = 1) (hinc : ∀ j, j + 1 < i → ys.getD j 0 < ys.getD (j + 1) 0) (hNN : 30 - i < NN) (H : Heap) (locs : List Loc), pc_S D A s.heap [(h0, .inr (9, [.ref aco, .ref ali, .ref acu, .ref a1, .ref a2, .ref apd, .ref asc, .ref fo, .int (zI (((wn : Nat) : Int))), .int (zI (((bn : Nat) : Int)))])), (aco, .inl (dA 5, 6, .inr (.inr (.inr (.inr kf))))), ((ca 0), .inr (1, [])), ((ca 1), .inr (2, [])), ((ca 2), .inr (3, [])), ((ca 3), .inr (4, [])), ((ca 4), .inr (5, [])), ((ca 5), .inr (6, [])), (apd, .inr (0, [.ref pb, .int (zI (((bs.length : Nat) : Int))), .int (ad)])), (pb, .inl (dA 0, 400, .inl fp)), (fo, .inl (dA 1, 24, .inl fd)), (asc, .inr (0, [.ref sb, .int (tm), .int (ta)])), (sb, .inl (dA 0, 400, .inl fs))] H locs → ∀ ls : Array Slot, lv_has ls 5 [(0, .ref h0), (1, .int (zI (((4 : Nat) : Int)))), (2, .int (zI (((k : Nat) : Int)))), (3, .int (zI (((ys.length : Nat) : Int)))), (4, .int (zI (((i : Nat) : Int))))] → W pg l ev (pc_rm 12 1 6) s mt args below meth cd H locs 0 0 Q (F0 mt 39 ls []) := by
      intro NN
      induction NN with
      | zero => intro i hi1 hi2 hinc hNN; exact absurd hNN (Nat.not_lt_zero _)
      | succ NN ih39 =>
        intro i hi1 hi2 hinc hNN H locs hw ls hl
        refine lv_iload X.x X.b dX1_reads_39 (lv_at hl 4 rfl) ?_
        refine lv_iload_n X.x X.b dX1_reads_41 rfl (lv_at hl 3 rfl) ?_
        refine z_icmp_ge (tgt := 72) X dX1_reads_42 (by decide) (by omega) (by omega) (fun c_5 => ?_) (fun c_5 => ?_)
        · skip
          have hib : incB ys = true := incB_iff.mpr (fun j hj => hinc j (by omega))
          have hvy := valid_of hn hys hib
          have hel := enc_len (c := 4) hvy hk
          refine lv_aload_n X.x X.b dX1_reads_72 rfl (lv_at hl 0 rfl) ?_
          refine z_get X hw in_X1 0 rfl rfl 6 (by decide) q188 rfl rfl dX1_reads_73 ?_
          refine cv_v (c1 := 0) (s1 := 0) X hw [11] [0, 1, 2, 3, 4, 5, 6, 7, 8, 9, 10, 12] (wr := [(h0, .inr (9, [.ref aco, .ref ali, .ref acu, .ref a1, .ref a2, .ref apd, .ref asc, .ref fo, .int (zI (((wn : Nat) : Int))), .int (zI (((bn : Nat) : Int)))])), (aco, .inl (dA 5, 6, .inr (.inr (.inr (.inr kf))))), ((ca 0), .inr (1, [])), ((ca 1), .inr (2, [])), ((ca 2), .inr (3, [])), ((ca 3), .inr (4, [])), ((ca 4), .inr (5, [])), ((ca 5), .inr (6, [])), (apd, .inr (0, [.ref pb, .int (zI (((bs.length : Nat) : Int))), .int (ad)])), (pb, .inl (dA 0, 400, .inl fp)), (fo, .inl (dA 1, 24, .inl fd)), (sb, .inl (dA 0, 400, .inl fs))]) (va_runV (As := []) (rest := []) X.fix (m_Row_begin l hst D dA asc sb (tm) (ta) _) (cwV 0 X.t (lw_V q359 q360 q361 q46 q362) rfl rfl rfl (by decide +kernel) (pc_rmle (by decide) (by decide))) (pc_preV X hw [11] rfl rfl 0 11 rfl rfl rfl) rfl rfl hl.1 rfl (lv_room (Nat.le_of_ble_eq_true rfl)) dX1_reads_76 ⟨Nat.le_of_ble_eq_true rfl, Nat.le_of_ble_eq_true rfl⟩) rfl rfl rfl rfl (fun _ _ => pc_c00) (fun u_7 H locs hq hw => ?_)
          have hw : pc_S D A s.heap [(h0, .inr (9, [.ref aco, .ref ali, .ref acu, .ref a1, .ref a2, .ref apd, .ref asc, .ref fo, .int (zI (((wn : Nat) : Int))), .int (zI (((bn : Nat) : Int)))])), (aco, .inl (dA 5, 6, .inr (.inr (.inr (.inr kf))))), ((ca 0), .inr (1, [])), ((ca 1), .inr (2, [])), ((ca 2), .inr (3, [])), ((ca 3), .inr (4, [])), ((ca 4), .inr (5, [])), ((ca 5), .inr (6, [])), (apd, .inr (0, [.ref pb, .int (zI (((bs.length : Nat) : Int))), .int (ad)])), (pb, .inl (dA 0, 400, .inl fp)), (fo, .inl (dA 1, 24, .inl fd)), (sb, .inl (dA 0, 400, .inl fs)), (asc, .inr (0, [.ref sb, .int (zI 0), .int (zI 0)]))] H locs := hw
          refine lv_aload_n X.x X.b dX1_reads_79 rfl (lv_at hl 0 rfl) ?_
          refine z_get X hw in_X1 0 rfl rfl 0 (by decide) q182 rfl rfl dX1_reads_80 ?_
          refine lv_iload_n X.x X.b dX1_reads_83 rfl (lv_at hl 1 rfl) ?_
          refine z_aald X hw 1 5 4 rfl rfl (by decide) (by omega) (v := .ref (ca 4)) (congrArg va_rf (hkf 4 (by decide))) dX1_reads_84 ?_
          refine lv_aload_n X.x X.b dX1_reads_85 rfl (lv_at hl 0 rfl) ?_
          refine z_get X hw in_X1 0 rfl rfl 6 (by decide) q188 rfl rfl dX1_reads_86 ?_
          refine lv_aload_n X.x X.b dX1_reads_89 rfl (lv_at hl 0 rfl) ?_
          refine z_get X hw in_X1 0 rfl rfl 7 (by decide) q189 rfl rfl dX1_reads_90 ?_
          refine lv_iload_n X.x X.b dX1_reads_93 rfl (lv_at hl 3 rfl) ?_
          refine lv_iload_n X.x X.b dX1_reads_94 rfl (lv_at hl 2 rfl) ?_
          refine cv_v5 (c1 := 0) (s1 := 0) X hw [6, 12, 11, 10] [0, 1, 2, 3, 4, 5, 7, 8, 9] (wr := [(h0, .inr (9, [.ref aco, .ref ali, .ref acu, .ref a1, .ref a2, .ref apd, .ref asc, .ref fo, .int (zI (((wn : Nat) : Int))), .int (zI (((bn : Nat) : Int)))])), (aco, .inl (dA 5, 6, .inr (.inr (.inr (.inr kf))))), ((ca 0), .inr (1, [])), ((ca 1), .inr (2, [])), ((ca 2), .inr (3, [])), ((ca 3), .inr (4, [])), ((ca 5), .inr (6, [])), (apd, .inr (0, [.ref pb, .int (zI (((bs.length : Nat) : Int))), .int (ad)])), (pb, .inl (dA 0, 400, .inl fp))]) (va_runF (As := [.ref asc, .ref fo, .int (zI (((ys.length : Nat) : Int))), .int (zI (((k : Nat) : Int)))]) (rest := []) (pc_at X 5 rfl) X.fix (m_enc_4 l hst D dA (ca 4) asc sb fo (zI 0) ys k fs fd hvy hfa _) (va_cwF (x := (mn_ "PostingCodes$Code" "encode" "(LPostingCodes$Row;[SII)V")) (C := RX7) 4 X.t (lw_F q364 q428 q430 q43 q432) rfl rfl rfl (pc_nf X.N 4 rfl) (by decide +kernel) (pc_rmle (by decide) (by decide))) (pc_preV X hw [6, 12, 11, 10] rfl rfl 5 6 rfl rfl rfl) rfl rfl hl.1 rfl (lv_room (Nat.le_of_ble_eq_true rfl)) dX1_reads_95 ⟨Nat.le_of_ble_eq_true rfl, Nat.le_of_ble_eq_true rfl⟩) rfl rfl rfl rfl (fun _ _ => pc_c00) (fun u_9 H locs hq hw => ?_)
          have hw : pc_S D A s.heap [(h0, .inr (9, [.ref aco, .ref ali, .ref acu, .ref a1, .ref a2, .ref apd, .ref asc, .ref fo, .int (zI (((wn : Nat) : Int))), .int (zI (((bn : Nat) : Int)))])), (aco, .inl (dA 5, 6, .inr (.inr (.inr (.inr kf))))), ((ca 0), .inr (1, [])), ((ca 1), .inr (2, [])), ((ca 2), .inr (3, [])), ((ca 3), .inr (4, [])), ((ca 5), .inr (6, [])), (apd, .inr (0, [.ref pb, .int (zI (((bs.length : Nat) : Int))), .int (ad)])), (pb, .inl (dA 0, 400, .inl fp)), ((ca 4), .inr (5, [])), (asc, .inr (0, [.ref sb, .int (zI ((((enc 4 k ys).length : Nat) : Int))), .int (zI 0)])), (sb, .inl (dA 0, 400, .inl u_9)), (fo, .inl (dA 1, 24, .inl fd))] H locs := hw
          have he_4 : RowIs (enc 4 k ys) u_9 := hq
          refine lv_aload_n X.x X.b dX1_reads_100 rfl (lv_at hl 0 rfl) ?_
          refine z_get X hw in_X1 0 rfl rfl 6 (by decide) q188 rfl rfl dX1_reads_101 ?_
          refine lv_aload_n X.x X.b dX1_reads_104 rfl (lv_at hl 0 rfl) ?_
          refine z_get X hw in_X1 0 rfl rfl 5 (by decide) q187 rfl rfl dX1_reads_105 ?_
          refine cv_i (c1 := 0) (s1 := 0) X hw [10, 11, 7, 8] [0, 1, 2, 3, 4, 5, 6, 9, 12] (wr := [(h0, .inr (9, [.ref aco, .ref ali, .ref acu, .ref a1, .ref a2, .ref apd, .ref asc, .ref fo, .int (zI (((wn : Nat) : Int))), .int (zI (((bn : Nat) : Int)))])), (aco, .inl (dA 5, 6, .inr (.inr (.inr (.inr kf))))), ((ca 0), .inr (1, [])), ((ca 1), .inr (2, [])), ((ca 2), .inr (3, [])), ((ca 3), .inr (4, [])), ((ca 5), .inr (6, [])), ((ca 4), .inr (5, [])), (fo, .inl (dA 1, 24, .inl fd))]) (va_runV (As := [.ref apd]) (rest := []) X.fix (m_Row_same l hst D dA asc sb apd pb (zI 0) (ad) (enc 4 k ys) bs u_9 fp he_4 hf h4 (by omega) _) (cwV 1 X.t (lw_V q584 q585 q586 q46 q587) rfl rfl rfl (by decide +kernel) (pc_rmle (by decide) (by decide))) (pc_preV X hw [10, 11, 7, 8] rfl rfl 0 10 rfl rfl rfl) rfl rfl hl.1 rfl (lv_room (Nat.le_of_ble_eq_true rfl)) dX1_reads_108 ⟨Nat.le_of_ble_eq_true rfl, Nat.le_of_ble_eq_true rfl⟩) rfl rfl rfl rfl (fun _ _ _ => pc_c00) (fun r_10 u_11 H locs hq hw => ?_)
          have hw : pc_S D A s.heap [(h0, .inr (9, [.ref aco, .ref ali, .ref acu, .ref a1, .ref a2, .ref apd, .ref asc, .ref fo, .int (zI (((wn : Nat) : Int))), .int (zI (((bn : Nat) : Int)))])), (aco, .inl (dA 5, 6, .inr (.inr (.inr (.inr kf))))), ((ca 0), .inr (1, [])), ((ca 1), .inr (2, [])), ((ca 2), .inr (3, [])), ((ca 3), .inr (4, [])), ((ca 5), .inr (6, [])), ((ca 4), .inr (5, [])), (fo, .inl (dA 1, 24, .inl fd)), (asc, .inr (0, [.ref sb, .int (zI ((((enc 4 k ys).length : Nat) : Int))), .int (zI 0)])), (sb, .inl (dA 0, 400, .inl u_9)), (apd, .inr (0, [.ref pb, .int (zI (((bs.length : Nat) : Int))), .int (ad)])), (pb, .inl (dA 0, 400, .inl fp))] H locs := hw
          subst hq
          have hw : pc_S D A s.heap [(h0, .inr (9, [.ref aco, .ref ali, .ref acu, .ref a1, .ref a2, .ref apd, .ref asc, .ref fo, .int (zI (((wn : Nat) : Int))), .int (zI (((bn : Nat) : Int)))])), (aco, .inl (dA 5, 6, .inr (.inr (.inr (.inr kf))))), ((ca 0), .inr (1, [])), ((ca 1), .inr (2, [])), ((ca 2), .inr (3, [])), ((ca 3), .inr (4, [])), ((ca 4), .inr (5, [])), ((ca 5), .inr (6, [])), (apd, .inr (0, [.ref pb, .int (zI (((bs.length : Nat) : Int))), .int (ad)])), (pb, .inl (dA 0, 400, .inl fp)), (fo, .inl (dA 1, 24, .inl fd)), (asc, .inr (0, [.ref sb, .int (zI ((((enc 4 k ys).length : Nat) : Int))), .int (zI 0)])), (sb, .inl (dA 0, 400, .inl u_9))] H locs := hw.sub [0, 1, 2, 3, 4, 5, 7, 6, 11, 12, 8, 9, 10] rfl rfl
          have hgb : goodB 4 k bs ys.length = decide (enc 4 k ys = bs) := by rw [goodB_some hdec, hib, Bool.true_and]
          rw [← hgb]
          exact exit (fd, ad, u_9, zI (((enc 4 k ys).length : Nat) : Int), zI 0) dX1_reads_111 (by cases goodB 4 k bs ys.length <;> decide) ⟨rfl, fun h => by
            rw [hgb] at h
            have h := of_decide_eq_true h
            exact ⟨ys, hdec, hfa, h ▸ he_4, by rw [h]⟩⟩ hw (Nat.zero_le _) (Nat.zero_le _)
        · skip
          refine lv_aload_n X.x X.b dX1_reads_45 rfl (lv_at hl 0 rfl) ?_
          refine z_get X hw in_X1 0 rfl rfl 7 (by decide) q189 rfl rfl dX1_reads_46 ?_
          refine lv_iload X.x X.b dX1_reads_49 (lv_at hl 4 rfl) ?_
          refine z_sald X hw 10 i rfl (by decide) (by omega) (v := zI ((ys.getD i 0 : Nat) : Int)) (hfa _ (by omega)) dX1_reads_51 ?_
          refine lv_aload_n X.x X.b dX1_reads_52 rfl (lv_at hl 0 rfl) ?_
          refine z_get X hw in_X1 0 rfl rfl 7 (by decide) q189 rfl rfl dX1_reads_53 ?_
          refine lv_iload X.x X.b dX1_reads_56 (lv_at hl 4 rfl) ?_
          refine z_iconst X dX1_reads_58 ?_
          refine z_isub X dX1_reads_59 ?_
          refine z_sald X hw 10 (i - 1) rfl (by decide) (by omega) (v := zI ((ys.getD (i - 1) 0 : Nat) : Int)) (hfa _ (by omega)) dX1_reads_60 ?_
          have hx8 := hys i (by omega)
          have hx9 := hys (i - 1) (by omega)
          refine z_icmp_gt (tgt := 66) X dX1_reads_61 (by decide) (by omega) (by omega) (fun c_12 => ?_) (fun c_12 => ?_)
          · skip
            refine z_iinc (lv' := [(4, .int (zI (((i : Nat) : Int) + 1))), (0, .ref h0), (1, .int (zI (((4 : Nat) : Int)))), (2, .int (zI (((k : Nat) : Int)))), (3, .int (zI (((ys.length : Nat) : Int))))]) X dX1_reads_66 hl (k0 := 4) rfl (by decide) rfl (fun ls hl => ?_)
            have hl : lv_has ls 5 [(4, .int (zI (((i + 1 : Nat) : Int)))), (0, .ref h0), (1, .int (zI (((4 : Nat) : Int)))), (2, .int (zI (((k : Nat) : Int)))), (3, .int (zI (((ys.length : Nat) : Int))))] := by rw [show (((i + 1 : Nat) : Int) : Int) = ((i : Nat) : Int) + 1 from by omega]; exact hl
            refine lv_goto (tgt := 39) X.x X.b dX1_reads_69 (by decide) ?_
            exact ih39  (i + 1) (by omega) (Or.inl (by omega)) (fun j h => by
                by_cases e : j + 1 = i
                · rw [e, show j = i - 1 from by omega]; omega
                · exact hinc j (by omega)) (by omega) H locs hw ls (lv_sub hl [1, 2, 3, 4, 0] rfl)
          · skip
            refine z_iconst X dX1_reads_64 ?_
            have hib : incB ys = false := by
              cases h : incB ys with
              | false => rfl
              | true =>
                have := incB_iff.mp h (i - 1) (by omega)
                rw [show i - 1 + 1 = i from by omega] at this
                omega
            have hgb : goodB 4 k bs ys.length = false := by rw [goodB_some hdec, hib]; rfl
            exact exit (fd, ad, fs, tm, ta) dX1_reads_65 (by decide) ⟨by rw [hgb]; rfl, fun h => by rw [hgb] at h; cases h⟩ hw (Nat.zero_le _) (Nat.zero_le _)
    exact B39 _ 1 (Nat.le_refl _) (Or.inr rfl) (fun j h => absurd h (by omega)) (Nat.lt_succ_self _) H locs (hw.sub [0, 1, 2, 3, 4, 5, 9, 6, 10, 11, 12, 7, 8] rfl rfl) ls (lv_sub hl [1, 2, 3, 4, 0] rfl)
set_option maxHeartbeats 4000000 in
/-- reads, code 5 -/
theorem m_reads_5 (l : Launch) (hst : l.stackTraces = false) (D : va_G) (dA : Nat → ClassId) (h0 aco ali acu a1 a2 apd asc fo wn bn : Nat) (hwb : wn ≤ 1000 ∧ bn ≤ 1000) (kf : Nat → Option Nat) (ca : Nat → Nat) (hkf : ∀ c, c < 6 → kf c = some (ca c)) (sb : Nat) (tm ta : Int32) (fs : Nat → Int32) (pb : Nat) (pa : Int32) (bs : List Bool) (fp g : Nat → Int32) (hf : RowIs bs fp) (h4 : bs.length ≤ 400) (k n : Nat) (hk : k ≤ 7) (hn : n ≤ 24) : px_I (SX := Unit) l yX1_reads (wsW_ yX1_reads cX1_reads 5 (some .boolean) [(8, 29, 32, 7)]) (pc_rm 12 1 6) D dA [.ref h0, .int (zI (((5 : Nat) : Int))), .int (zI (((k : Nat) : Int))), .int (zI (((n : Nat) : Int)))] [(h0, .inr (9, [.ref aco, .ref ali, .ref acu, .ref a1, .ref a2, .ref apd, .ref asc, .ref fo, .int (zI (((wn : Nat) : Int))), .int (zI (((bn : Nat) : Int)))])), (aco, .inl (dA 5, 6, .inr (.inr (.inr (.inr kf))))), ((ca 0), .inr (1, [])), ((ca 1), .inr (2, [])), ((ca 2), .inr (3, [])), ((ca 3), .inr (4, [])), ((ca 4), .inr (5, [])), ((ca 5), .inr (6, [])), (apd, .inr (0, [.ref pb, .int (zI (((bs.length : Nat) : Int))), .int (pa)])), (pb, .inl (dA 0, 400, .inl fp)), (fo, .inl (dA 1, 24, .inl g)), (asc, .inr (0, [.ref sb, .int (tm), .int (ta)])), (sb, .inl (dA 0, 400, .inl fs))] (fun r (u : (Nat → Int32) × Int32 × (Nat → Int32) × Int32 × Int32) => r = zI ((b2n (goodB 5 k bs n) : Nat) : Int) ∧ ((goodB 5 k bs n) = true → ∃ ys, dec 5 k bs n = some ys ∧ ArrIs ys u.1 ∧ RowIs bs u.2.2.1 ∧ u.2.2.2.1 = zI ((bs.length : Nat) : Int))) (fun u : (Nat → Int32) × Int32 × (Nat → Int32) × Int32 × Int32 => [(h0, .inr (9, [.ref aco, .ref ali, .ref acu, .ref a1, .ref a2, .ref apd, .ref asc, .ref fo, .int (zI (((wn : Nat) : Int))), .int (zI (((bn : Nat) : Int)))])), (aco, .inl (dA 5, 6, .inr (.inr (.inr (.inr kf))))), ((ca 0), .inr (1, [])), ((ca 1), .inr (2, [])), ((ca 2), .inr (3, [])), ((ca 3), .inr (4, [])), ((ca 4), .inr (5, [])), ((ca 5), .inr (6, [])), (apd, .inr (0, [.ref pb, .int (zI (((bs.length : Nat) : Int))), .int (u.2.1)])), (pb, .inl (dA 0, 400, .inl fp)), (fo, .inl (dA 1, 24, .inl u.1)), (asc, .inr (0, [.ref sb, .int (u.2.2.2.1), .int (u.2.2.2.2)])), (sb, .inl (dA 0, 400, .inl u.2.2.1))]) (fun _ _ => False) (fun _ => []) := by
  refine sxh_i hst (by decide) RX1 rfl (Nat.le_of_ble_eq_true rfl) ?_
  intro pg ev s mt args below meth cd R A Q hR X htab exit H locs hw ls hl
  subst hR
  have hl : lv_has ls 5 [(0, .ref h0), (1, .int (zI (((5 : Nat) : Int)))), (2, .int (zI (((k : Nat) : Int)))), (3, .int (zI (((n : Nat) : Int))))] := hl
  refine lv_aload_n X.x X.b dX1_reads_0 rfl (lv_at hl 0 rfl) ?_
  refine z_get X hw in_X1 0 rfl rfl 5 (by decide) q187 rfl rfl dX1_reads_1 ?_
  refine z_iconst X dX1_reads_4 ?_
  refine z_put X hw in_X10 tyX10 tyX10_ok nmX10 8 rfl rfl 2 (by decide) q144 rfl rfl rfl rfl (Nat.le_of_ble_eq_true rfl) dX1_reads_5 (fun H locs hw => ?_)
  have hw : pc_S D A s.heap [(h0, .inr (9, [.ref aco, .ref ali, .ref acu, .ref a1, .ref a2, .ref apd, .ref asc, .ref fo, .int (zI (((wn : Nat) : Int))), .int (zI (((bn : Nat) : Int)))])), (aco, .inl (dA 5, 6, .inr (.inr (.inr (.inr kf))))), ((ca 0), .inr (1, [])), ((ca 1), .inr (2, [])), ((ca 2), .inr (3, [])), ((ca 3), .inr (4, [])), ((ca 4), .inr (5, [])), ((ca 5), .inr (6, [])), (apd, .inr (0, [.ref pb, .int (zI (((bs.length : Nat) : Int))), .int (zI 0)])), (pb, .inl (dA 0, 400, .inl fp)), (fo, .inl (dA 1, 24, .inl g)), (asc, .inr (0, [.ref sb, .int (tm), .int (ta)])), (sb, .inl (dA 0, 400, .inl fs))] H locs := hw
  refine lv_aload_n X.x X.b dX1_reads_8 rfl (lv_at hl 0 rfl) ?_
  refine z_get X hw in_X1 0 rfl rfl 0 (by decide) q182 rfl rfl dX1_reads_9 ?_
  refine lv_iload_n X.x X.b dX1_reads_12 rfl (lv_at hl 1 rfl) ?_
  refine z_aald X hw 1 5 5 rfl rfl (by decide) (by omega) (v := .ref (ca 5)) (congrArg va_rf (hkf 5 (by decide))) dX1_reads_13 ?_
  refine lv_aload_n X.x X.b dX1_reads_14 rfl (lv_at hl 0 rfl) ?_
  refine z_get X hw in_X1 0 rfl rfl 5 (by decide) q187 rfl rfl dX1_reads_15 ?_
  refine lv_aload_n X.x X.b dX1_reads_18 rfl (lv_at hl 0 rfl) ?_
  refine z_get X hw in_X1 0 rfl rfl 7 (by decide) q189 rfl rfl dX1_reads_19 ?_
  refine lv_iload_n X.x X.b dX1_reads_22 rfl (lv_at hl 3 rfl) ?_
  refine lv_iload_n X.x X.b dX1_reads_23 rfl (lv_at hl 2 rfl) ?_
  obtain ⟨t_1, ht_1⟩ : ∃ q : Bool, q = ((decM bs 5 n 0 4096 0).isNone) := ⟨_, rfl⟩
  refine cx_v5 (c1 := 0) (s1 := 0) X hw [7, 8, 9, 10] [0, 1, 2, 3, 4, 5, 6, 11, 12] (wr := [(h0, .inr (9, [.ref aco, .ref ali, .ref acu, .ref a1, .ref a2, .ref apd, .ref asc, .ref fo, .int (zI (((wn : Nat) : Int))), .int (zI (((bn : Nat) : Int)))])), (aco, .inl (dA 5, 6, .inr (.inr (.inr (.inr kf))))), ((ca 0), .inr (1, [])), ((ca 1), .inr (2, [])), ((ca 2), .inr (3, [])), ((ca 3), .inr (4, [])), ((ca 4), .inr (5, [])), (asc, .inr (0, [.ref sb, .int (tm), .int (ta)])), (sb, .inl (dA 0, 400, .inl fs))]) (vx_runF (As := [.ref apd, .ref fo, .int (zI (((n : Nat) : Int))), .int (zI (((k : Nat) : Int)))]) (rest := []) (pc_at X 6 rfl) X.fix (m_dec_5 l hst D dA (ca 5) apd pb fo bs k n fp g hf h4 hk hn t_1 ht_1 _) (va_cwF (x := (mn_ "PostingCodes$Code" "decode" "(LPostingCodes$Row;[SII)V")) (C := RX8) 4 X.t (lw_F q516 q562 q564 q44 q566) rfl rfl rfl (pc_nf X.N 11 rfl) (by decide +kernel) (pc_rmle (by decide) (by decide))) (pc_preV X hw [7, 8, 9, 10] rfl rfl 6 7 rfl rfl rfl) rfl rfl hl.1 rfl (lv_room (Nat.le_of_ble_eq_true rfl)) dX1_reads_24 pc_le1) rfl rfl rfl rfl (fun E ce q9 ux_4 H locs hq hw h1 h2 h3 => ?_) (fun u hq => pc_c0 hq.1) (fun u_3 H locs hq hw => ?_)
  · skip
    have hw : pc_S D A s.heap [(h0, .inr (9, [.ref aco, .ref ali, .ref acu, .ref a1, .ref a2, .ref apd, .ref asc, .ref fo, .int (zI (((wn : Nat) : Int))), .int (zI (((bn : Nat) : Int)))])), (aco, .inl (dA 5, 6, .inr (.inr (.inr (.inr kf))))), ((ca 0), .inr (1, [])), ((ca 1), .inr (2, [])), ((ca 2), .inr (3, [])), ((ca 3), .inr (4, [])), ((ca 4), .inr (5, [])), (asc, .inr (0, [.ref sb, .int (tm), .int (ta)])), (sb, .inl (dA 0, 400, .inl fs)), ((ca 5), .inr (6, [])), (apd, .inr (0, [.ref pb, .int (zI (((bs.length : Nat) : Int))), .int (ux_4.2)])), (pb, .inl (dA 0, 400, .inl fp)), (fo, .inl (dA 1, 24, .inl ux_4.1))] H locs := hw
    obtain ⟨rfl, htt⟩ := hq
    refine pc_catch (hh := [(8, 29, 32, 7)]) (pre := []) (q := (8, 29, 32, 7)) (suf := []) (E := xIAE) (nm := xIAE) X htab rfl (by decide) (by decide) q312 (by decide) (fun _ h => nomatch h) h1 h2 h3 ?_
    refine lv_astore (lv' := [(4, .ref q9), (0, .ref h0), (1, .int (zI (((5 : Nat) : Int)))), (2, .int (zI (((k : Nat) : Int)))), (3, .int (zI (((n : Nat) : Int))))]) X.x X.b dX1_reads_32 hl (by decide) rfl (fun ls hl => ?_)
    refine z_iconst X dX1_reads_34 ?_
    have hw : pc_S D A s.heap [(h0, .inr (9, [.ref aco, .ref ali, .ref acu, .ref a1, .ref a2, .ref apd, .ref asc, .ref fo, .int (zI (((wn : Nat) : Int))), .int (zI (((bn : Nat) : Int)))])), (aco, .inl (dA 5, 6, .inr (.inr (.inr (.inr kf))))), ((ca 0), .inr (1, [])), ((ca 1), .inr (2, [])), ((ca 2), .inr (3, [])), ((ca 3), .inr (4, [])), ((ca 4), .inr (5, [])), ((ca 5), .inr (6, [])), (apd, .inr (0, [.ref pb, .int (zI (((bs.length : Nat) : Int))), .int (ux_4.2)])), (pb, .inl (dA 0, 400, .inl fp)), (fo, .inl (dA 1, 24, .inl ux_4.1)), (asc, .inr (0, [.ref sb, .int (tm), .int (ta)])), (sb, .inl (dA 0, 400, .inl fs))] H locs := hw.sub [0, 1, 2, 3, 4, 5, 6, 9, 10, 11, 12, 7, 8] rfl rfl
    have hno : dec 5 k bs n = none := by
      show Option.map _ _ = _
      rw [ht_1] at htt
      rw [Option.isNone_iff_eq_none.mp htt]; rfl
    exact exit (ux_4.1, ux_4.2, fs, tm, ta) dX1_reads_35 (by decide) ⟨by rw [goodB_none hno]; rfl, fun h => by rw [goodB_none hno] at h; cases h⟩ hw pc_le1.1 pc_le1.2
  · skip
    obtain ⟨fd, ad⟩ := u_3
    have hw : pc_S D A s.heap [(h0, .inr (9, [.ref aco, .ref ali, .ref acu, .ref a1, .ref a2, .ref apd, .ref asc, .ref fo, .int (zI (((wn : Nat) : Int))), .int (zI (((bn : Nat) : Int)))])), (aco, .inl (dA 5, 6, .inr (.inr (.inr (.inr kf))))), ((ca 0), .inr (1, [])), ((ca 1), .inr (2, [])), ((ca 2), .inr (3, [])), ((ca 3), .inr (4, [])), ((ca 4), .inr (5, [])), (asc, .inr (0, [.ref sb, .int (tm), .int (ta)])), (sb, .inl (dA 0, 400, .inl fs)), ((ca 5), .inr (6, [])), (apd, .inr (0, [.ref pb, .int (zI (((bs.length : Nat) : Int))), .int (ad)])), (pb, .inl (dA 0, 400, .inl fp)), (fo, .inl (dA 1, 24, .inl fd))] H locs := hw
    obtain ⟨hq, ys, qq, hd, hfa⟩ := hq
    have hdec : dec 5 k bs n = some ys := by
      show Option.map _ _ = _
      rw [hd]; rfl
    dsimp only at hfa
    obtain ⟨hyl, hys⟩ := dec_spec hn hdec
    subst hyl
    refine lv_goto (tgt := 36) X.x X.b dX1_reads_29 (by decide) ?_
    refine z_iconst X dX1_reads_36 ?_
    refine lv_istore (lv' := [(4, .int (zI 1)), (0, .ref h0), (1, .int (zI (((5 : Nat) : Int)))), (2, .int (zI (((k : Nat) : Int)))), (3, .int (zI (((ys.length : Nat) : Int))))]) X.x X.b dX1_reads_37 hl (by decide) rfl (fun ls hl => ?_)
    have B39 : ∀ (NN : Nat) (i : Nat) (hi1 : 1 ≤ i) (hi2 : i ≤ ys.length ∨ i = 1) (hinc : ∀ j, j + 1 < i → ys.getD j 0 < ys.getD (j + 1) 0) (hNN : 30 - i < NN) (H : Heap) (locs : List Loc), pc_S D A s.heap [(h0, .inr (9, [.ref aco, .ref ali, .ref acu, .ref a1, .ref a2, .ref apd, .ref asc, .ref fo, .int (zI (((wn : Nat) : Int))), .int (zI (((bn : Nat) : Int)))])), (aco, .inl (dA 5, 6, .inr (.inr (.inr (.inr kf))))), ((ca 0), .inr (1, [])), ((ca 1), .inr (2, [])), ((ca 2), .inr (3, [])), ((ca 3), .inr (4, [])), ((ca 4), .inr (5, [])), ((ca 5), .inr (6, [])), (apd, .inr (0, [.ref pb, .int (zI (((bs.length : Nat) : Int))), .int (ad)])), (pb, .inl (dA 0, 400, .inl fp)), (fo, .inl (dA 1, 24, .inl fd)), (asc, .inr (0, [.ref sb, .int (tm), .int (ta)])), (sb, .inl (dA 0, 400, .inl fs))] H locs → ∀ ls : Array Slot, lv_has ls 5 [(0, .ref h0), (1, .int (zI (((5 : Nat) : Int)))), (2, .int (zI (((k : Nat) : Int)))), (3, .int (zI (((ys.length : Nat) : Int)))), (4, .int (zI (((i : Nat) : Int))))] → W pg l ev (pc_rm 12 1 6) s mt args below meth cd H locs 0 0 Q (F0 mt 39 ls []) := by
      intro NN
      induction NN with
      | zero => intro i hi1 hi2 hinc hNN; exact absurd hNN (Nat.not_lt_zero _)
      | succ NN ih39 =>
        intro i hi1 hi2 hinc hNN H locs hw ls hl
        refine lv_iload X.x X.b dX1_reads_39 (lv_at hl 4 rfl) ?_
        refine lv_iload_n X.x X.b dX1_reads_41 rfl (lv_at hl 3 rfl) ?_
        refine z_icmp_ge (tgt := 72) X dX1_reads_42 (by decide) (by omega) (by omega) (fun c_5 => ?_) (fun c_5 => ?_)
        · skip
          have hib : incB ys = true := incB_iff.mpr (fun j hj => hinc j (by omega))
          have hvy := valid_of hn hys hib
          have hel := enc_len (c := 5) hvy hk
          refine lv_aload_n X.x X.b dX1_reads_72 rfl (lv_at hl 0 rfl) ?_
          refine z_get X hw in_X1 0 rfl rfl 6 (by decide) q188 rfl rfl dX1_reads_73 ?_
          refine cv_v (c1 := 0) (s1 := 0) X hw [11] [0, 1, 2, 3, 4, 5, 6, 7, 8, 9, 10, 12] (wr := [(h0, .inr (9, [.ref aco, .ref ali, .ref acu, .ref a1, .ref a2, .ref apd, .ref asc, .ref fo, .int (zI (((wn : Nat) : Int))), .int (zI (((bn : Nat) : Int)))])), (aco, .inl (dA 5, 6, .inr (.inr (.inr (.inr kf))))), ((ca 0), .inr (1, [])), ((ca 1), .inr (2, [])), ((ca 2), .inr (3, [])), ((ca 3), .inr (4, [])), ((ca 4), .inr (5, [])), ((ca 5), .inr (6, [])), (apd, .inr (0, [.ref pb, .int (zI (((bs.length : Nat) : Int))), .int (ad)])), (pb, .inl (dA 0, 400, .inl fp)), (fo, .inl (dA 1, 24, .inl fd)), (sb, .inl (dA 0, 400, .inl fs))]) (va_runV (As := []) (rest := []) X.fix (m_Row_begin l hst D dA asc sb (tm) (ta) _) (cwV 0 X.t (lw_V q359 q360 q361 q46 q362) rfl rfl rfl (by decide +kernel) (pc_rmle (by decide) (by decide))) (pc_preV X hw [11] rfl rfl 0 11 rfl rfl rfl) rfl rfl hl.1 rfl (lv_room (Nat.le_of_ble_eq_true rfl)) dX1_reads_76 ⟨Nat.le_of_ble_eq_true rfl, Nat.le_of_ble_eq_true rfl⟩) rfl rfl rfl rfl (fun _ _ => pc_c00) (fun u_7 H locs hq hw => ?_)
          have hw : pc_S D A s.heap [(h0, .inr (9, [.ref aco, .ref ali, .ref acu, .ref a1, .ref a2, .ref apd, .ref asc, .ref fo, .int (zI (((wn : Nat) : Int))), .int (zI (((bn : Nat) : Int)))])), (aco, .inl (dA 5, 6, .inr (.inr (.inr (.inr kf))))), ((ca 0), .inr (1, [])), ((ca 1), .inr (2, [])), ((ca 2), .inr (3, [])), ((ca 3), .inr (4, [])), ((ca 4), .inr (5, [])), ((ca 5), .inr (6, [])), (apd, .inr (0, [.ref pb, .int (zI (((bs.length : Nat) : Int))), .int (ad)])), (pb, .inl (dA 0, 400, .inl fp)), (fo, .inl (dA 1, 24, .inl fd)), (sb, .inl (dA 0, 400, .inl fs)), (asc, .inr (0, [.ref sb, .int (zI 0), .int (zI 0)]))] H locs := hw
          refine lv_aload_n X.x X.b dX1_reads_79 rfl (lv_at hl 0 rfl) ?_
          refine z_get X hw in_X1 0 rfl rfl 0 (by decide) q182 rfl rfl dX1_reads_80 ?_
          refine lv_iload_n X.x X.b dX1_reads_83 rfl (lv_at hl 1 rfl) ?_
          refine z_aald X hw 1 5 5 rfl rfl (by decide) (by omega) (v := .ref (ca 5)) (congrArg va_rf (hkf 5 (by decide))) dX1_reads_84 ?_
          refine lv_aload_n X.x X.b dX1_reads_85 rfl (lv_at hl 0 rfl) ?_
          refine z_get X hw in_X1 0 rfl rfl 6 (by decide) q188 rfl rfl dX1_reads_86 ?_
          refine lv_aload_n X.x X.b dX1_reads_89 rfl (lv_at hl 0 rfl) ?_
          refine z_get X hw in_X1 0 rfl rfl 7 (by decide) q189 rfl rfl dX1_reads_90 ?_
          refine lv_iload_n X.x X.b dX1_reads_93 rfl (lv_at hl 3 rfl) ?_
          refine lv_iload_n X.x X.b dX1_reads_94 rfl (lv_at hl 2 rfl) ?_
          refine cv_v5 (c1 := 0) (s1 := 0) X hw [7, 12, 11, 10] [0, 1, 2, 3, 4, 5, 6, 8, 9] (wr := [(h0, .inr (9, [.ref aco, .ref ali, .ref acu, .ref a1, .ref a2, .ref apd, .ref asc, .ref fo, .int (zI (((wn : Nat) : Int))), .int (zI (((bn : Nat) : Int)))])), (aco, .inl (dA 5, 6, .inr (.inr (.inr (.inr kf))))), ((ca 0), .inr (1, [])), ((ca 1), .inr (2, [])), ((ca 2), .inr (3, [])), ((ca 3), .inr (4, [])), ((ca 4), .inr (5, [])), (apd, .inr (0, [.ref pb, .int (zI (((bs.length : Nat) : Int))), .int (ad)])), (pb, .inl (dA 0, 400, .inl fp))]) (va_runF (As := [.ref asc, .ref fo, .int (zI (((ys.length : Nat) : Int))), .int (zI (((k : Nat) : Int)))]) (rest := []) (pc_at X 6 rfl) X.fix (m_enc_5 l hst D dA (ca 5) asc sb fo (zI 0) ys k fs fd hvy hfa _) (va_cwF (x := (mn_ "PostingCodes$Code" "encode" "(LPostingCodes$Row;[SII)V")) (C := RX8) 4 X.t (lw_F q364 q409 q411 q44 q413) rfl rfl rfl (pc_nf X.N 5 rfl) (by decide +kernel) (pc_rmle (by decide) (by decide))) (pc_preV X hw [7, 12, 11, 10] rfl rfl 6 7 rfl rfl rfl) rfl rfl hl.1 rfl (lv_room (Nat.le_of_ble_eq_true rfl)) dX1_reads_95 ⟨Nat.le_of_ble_eq_true rfl, Nat.le_of_ble_eq_true rfl⟩) rfl rfl rfl rfl (fun _ _ => pc_c00) (fun u_9 H locs hq hw => ?_)
          have hw : pc_S D A s.heap [(h0, .inr (9, [.ref aco, .ref ali, .ref acu, .ref a1, .ref a2, .ref apd, .ref asc, .ref fo, .int (zI (((wn : Nat) : Int))), .int (zI (((bn : Nat) : Int)))])), (aco, .inl (dA 5, 6, .inr (.inr (.inr (.inr kf))))), ((ca 0), .inr (1, [])), ((ca 1), .inr (2, [])), ((ca 2), .inr (3, [])), ((ca 3), .inr (4, [])), ((ca 4), .inr (5, [])), (apd, .inr (0, [.ref pb, .int (zI (((bs.length : Nat) : Int))), .int (ad)])), (pb, .inl (dA 0, 400, .inl fp)), ((ca 5), .inr (6, [])), (asc, .inr (0, [.ref sb, .int (zI ((((enc 5 k ys).length : Nat) : Int))), .int (zI 0)])), (sb, .inl (dA 0, 400, .inl u_9)), (fo, .inl (dA 1, 24, .inl fd))] H locs := hw
          have he_5 : RowIs (enc 5 k ys) u_9 := hq
          refine lv_aload_n X.x X.b dX1_reads_100 rfl (lv_at hl 0 rfl) ?_
          refine z_get X hw in_X1 0 rfl rfl 6 (by decide) q188 rfl rfl dX1_reads_101 ?_
          refine lv_aload_n X.x X.b dX1_reads_104 rfl (lv_at hl 0 rfl) ?_
          refine z_get X hw in_X1 0 rfl rfl 5 (by decide) q187 rfl rfl dX1_reads_105 ?_
          refine cv_i (c1 := 0) (s1 := 0) X hw [10, 11, 7, 8] [0, 1, 2, 3, 4, 5, 6, 9, 12] (wr := [(h0, .inr (9, [.ref aco, .ref ali, .ref acu, .ref a1, .ref a2, .ref apd, .ref asc, .ref fo, .int (zI (((wn : Nat) : Int))), .int (zI (((bn : Nat) : Int)))])), (aco, .inl (dA 5, 6, .inr (.inr (.inr (.inr kf))))), ((ca 0), .inr (1, [])), ((ca 1), .inr (2, [])), ((ca 2), .inr (3, [])), ((ca 3), .inr (4, [])), ((ca 4), .inr (5, [])), ((ca 5), .inr (6, [])), (fo, .inl (dA 1, 24, .inl fd))]) (va_runV (As := [.ref apd]) (rest := []) X.fix (m_Row_same l hst D dA asc sb apd pb (zI 0) (ad) (enc 5 k ys) bs u_9 fp he_5 hf h4 (by omega) _) (cwV 1 X.t (lw_V q584 q585 q586 q46 q587) rfl rfl rfl (by decide +kernel) (pc_rmle (by decide) (by decide))) (pc_preV X hw [10, 11, 7, 8] rfl rfl 0 10 rfl rfl rfl) rfl rfl hl.1 rfl (lv_room (Nat.le_of_ble_eq_true rfl)) dX1_reads_108 ⟨Nat.le_of_ble_eq_true rfl, Nat.le_of_ble_eq_true rfl⟩) rfl rfl rfl rfl (fun _ _ _ => pc_c00) (fun r_10 u_11 H locs hq hw => ?_)
          have hw : pc_S D A s.heap [(h0, .inr (9, [.ref aco, .ref ali, .ref acu, .ref a1, .ref a2, .ref apd, .ref asc, .ref fo, .int (zI (((wn : Nat) : Int))), .int (zI (((bn : Nat) : Int)))])), (aco, .inl (dA 5, 6, .inr (.inr (.inr (.inr kf))))), ((ca 0), .inr (1, [])), ((ca 1), .inr (2, [])), ((ca 2), .inr (3, [])), ((ca 3), .inr (4, [])), ((ca 4), .inr (5, [])), ((ca 5), .inr (6, [])), (fo, .inl (dA 1, 24, .inl fd)), (asc, .inr (0, [.ref sb, .int (zI ((((enc 5 k ys).length : Nat) : Int))), .int (zI 0)])), (sb, .inl (dA 0, 400, .inl u_9)), (apd, .inr (0, [.ref pb, .int (zI (((bs.length : Nat) : Int))), .int (ad)])), (pb, .inl (dA 0, 400, .inl fp))] H locs := hw
          subst hq
          have hw : pc_S D A s.heap [(h0, .inr (9, [.ref aco, .ref ali, .ref acu, .ref a1, .ref a2, .ref apd, .ref asc, .ref fo, .int (zI (((wn : Nat) : Int))), .int (zI (((bn : Nat) : Int)))])), (aco, .inl (dA 5, 6, .inr (.inr (.inr (.inr kf))))), ((ca 0), .inr (1, [])), ((ca 1), .inr (2, [])), ((ca 2), .inr (3, [])), ((ca 3), .inr (4, [])), ((ca 4), .inr (5, [])), ((ca 5), .inr (6, [])), (apd, .inr (0, [.ref pb, .int (zI (((bs.length : Nat) : Int))), .int (ad)])), (pb, .inl (dA 0, 400, .inl fp)), (fo, .inl (dA 1, 24, .inl fd)), (asc, .inr (0, [.ref sb, .int (zI ((((enc 5 k ys).length : Nat) : Int))), .int (zI 0)])), (sb, .inl (dA 0, 400, .inl u_9))] H locs := hw.sub [0, 1, 2, 3, 4, 5, 6, 7, 11, 12, 8, 9, 10] rfl rfl
          have hgb : goodB 5 k bs ys.length = decide (enc 5 k ys = bs) := by rw [goodB_some hdec, hib, Bool.true_and]
          rw [← hgb]
          exact exit (fd, ad, u_9, zI (((enc 5 k ys).length : Nat) : Int), zI 0) dX1_reads_111 (by cases goodB 5 k bs ys.length <;> decide) ⟨rfl, fun h => by
            rw [hgb] at h
            have h := of_decide_eq_true h
            exact ⟨ys, hdec, hfa, h ▸ he_5, by rw [h]⟩⟩ hw (Nat.zero_le _) (Nat.zero_le _)
        · skip
          refine lv_aload_n X.x X.b dX1_reads_45 rfl (lv_at hl 0 rfl) ?_
          refine z_get X hw in_X1 0 rfl rfl 7 (by decide) q189 rfl rfl dX1_reads_46 ?_
          refine lv_iload X.x X.b dX1_reads_49 (lv_at hl 4 rfl) ?_
          refine z_sald X hw 10 i rfl (by decide) (by omega) (v := zI ((ys.getD i 0 : Nat) : Int)) (hfa _ (by omega)) dX1_reads_51 ?_
          refine lv_aload_n X.x X.b dX1_reads_52 rfl (lv_at hl 0 rfl) ?_
          refine z_get X hw in_X1 0 rfl rfl 7 (by decide) q189 rfl rfl dX1_reads_53 ?_
          refine lv_iload X.x X.b dX1_reads_56 (lv_at hl 4 rfl) ?_
          refine z_iconst X dX1_reads_58 ?_
          refine z_isub X dX1_reads_59 ?_
          refine z_sald X hw 10 (i - 1) rfl (by decide) (by omega) (v := zI ((ys.getD (i - 1) 0 : Nat) : Int)) (hfa _ (by omega)) dX1_reads_60 ?_
          have hx8 := hys i (by omega)
          have hx9 := hys (i - 1) (by omega)
          refine z_icmp_gt (tgt := 66) X dX1_reads_61 (by decide) (by omega) (by omega) (fun c_12 => ?_) (fun c_12 => ?_)
          · skip
            refine z_iinc (lv' := [(4, .int (zI (((i : Nat) : Int) + 1))), (0, .ref h0), (1, .int (zI (((5 : Nat) : Int)))), (2, .int (zI (((k : Nat) : Int)))), (3, .int (zI (((ys.length : Nat) : Int))))]) X dX1_reads_66 hl (k0 := 4) rfl (by decide) rfl (fun ls hl => ?_)
            have hl : lv_has ls 5 [(4, .int (zI (((i + 1 : Nat) : Int)))), (0, .ref h0), (1, .int (zI (((5 : Nat) : Int)))), (2, .int (zI (((k : Nat) : Int)))), (3, .int (zI (((ys.length : Nat) : Int))))] := by rw [show (((i + 1 : Nat) : Int) : Int) = ((i : Nat) : Int) + 1 from by omega]; exact hl
            refine lv_goto (tgt := 39) X.x X.b dX1_reads_69 (by decide) ?_
            exact ih39  (i + 1) (by omega) (Or.inl (by omega)) (fun j h => by
                by_cases e : j + 1 = i
                · rw [e, show j = i - 1 from by omega]; omega
                · exact hinc j (by omega)) (by omega) H locs hw ls (lv_sub hl [1, 2, 3, 4, 0] rfl)
          · skip
            refine z_iconst X dX1_reads_64 ?_
            have hib : incB ys = false := by
              cases h : incB ys with
              | false => rfl
              | true =>
                have := incB_iff.mp h (i - 1) (by omega)
                rw [show i - 1 + 1 = i from by omega] at this
                omega
            have hgb : goodB 5 k bs ys.length = false := by rw [goodB_some hdec, hib]; rfl
            exact exit (fd, ad, fs, tm, ta) dX1_reads_65 (by decide) ⟨by rw [hgb]; rfl, fun h => by rw [hgb] at h; cases h⟩ hw (Nat.zero_le _) (Nat.zero_le _)
    exact B39 _ 1 (Nat.le_refl _) (Or.inr rfl) (fun j h => absurd h (by omega)) (Nat.lt_succ_self _) H locs (hw.sub [0, 1, 2, 3, 4, 5, 6, 9, 10, 11, 12, 7, 8] rfl rfl) ls (lv_sub hl [1, 2, 3, 4, 0] rfl)
theorem m_reads (l : Launch) (hst : l.stackTraces = false) (D : va_G) (dA : Nat → ClassId) (h0 aco ali acu a1 a2 apd asc fo wn bn : Nat) (hwb : wn ≤ 1000 ∧ bn ≤ 1000) (kf : Nat → Option Nat) (ca : Nat → Nat) (hkf : ∀ c, c < 6 → kf c = some (ca c)) (sb : Nat) (tm ta : Int32) (fs : Nat → Int32) (pb : Nat) (pa : Int32) (bs : List Bool) (fp g : Nat → Int32) (hf : RowIs bs fp) (h4 : bs.length ≤ 400) (k n : Nat) (hk : k ≤ 7) (hn : n ≤ 24) (c : Nat) (hc : c < 6) : px_I (SX := Unit) l yX1_reads (wsW_ yX1_reads cX1_reads 5 (some .boolean) [(8, 29, 32, 7)]) (pc_rm 12 1 6) D dA [.ref h0, .int (zI (((c : Nat) : Int))), .int (zI (((k : Nat) : Int))), .int (zI (((n : Nat) : Int)))] [(h0, .inr (9, [.ref aco, .ref ali, .ref acu, .ref a1, .ref a2, .ref apd, .ref asc, .ref fo, .int (zI (((wn : Nat) : Int))), .int (zI (((bn : Nat) : Int)))])), (aco, .inl (dA 5, 6, .inr (.inr (.inr (.inr kf))))), ((ca 0), .inr (1, [])), ((ca 1), .inr (2, [])), ((ca 2), .inr (3, [])), ((ca 3), .inr (4, [])), ((ca 4), .inr (5, [])), ((ca 5), .inr (6, [])), (apd, .inr (0, [.ref pb, .int (zI (((bs.length : Nat) : Int))), .int (pa)])), (pb, .inl (dA 0, 400, .inl fp)), (fo, .inl (dA 1, 24, .inl g)), (asc, .inr (0, [.ref sb, .int (tm), .int (ta)])), (sb, .inl (dA 0, 400, .inl fs))] (fun r (u : (Nat → Int32) × Int32 × (Nat → Int32) × Int32 × Int32) => r = zI ((b2n (goodB c k bs n) : Nat) : Int) ∧ ((goodB c k bs n) = true → ∃ ys, dec c k bs n = some ys ∧ ArrIs ys u.1 ∧ RowIs bs u.2.2.1 ∧ u.2.2.2.1 = zI ((bs.length : Nat) : Int))) (fun u : (Nat → Int32) × Int32 × (Nat → Int32) × Int32 × Int32 => [(h0, .inr (9, [.ref aco, .ref ali, .ref acu, .ref a1, .ref a2, .ref apd, .ref asc, .ref fo, .int (zI (((wn : Nat) : Int))), .int (zI (((bn : Nat) : Int)))])), (aco, .inl (dA 5, 6, .inr (.inr (.inr (.inr kf))))), ((ca 0), .inr (1, [])), ((ca 1), .inr (2, [])), ((ca 2), .inr (3, [])), ((ca 3), .inr (4, [])), ((ca 4), .inr (5, [])), ((ca 5), .inr (6, [])), (apd, .inr (0, [.ref pb, .int (zI (((bs.length : Nat) : Int))), .int (u.2.1)])), (pb, .inl (dA 0, 400, .inl fp)), (fo, .inl (dA 1, 24, .inl u.1)), (asc, .inr (0, [.ref sb, .int (u.2.2.2.1), .int (u.2.2.2.2)])), (sb, .inl (dA 0, 400, .inl u.2.2.1))]) (fun _ _ => False) (fun _ => []) := by
  rcases (show c = 0 ∨ c = 1 ∨ c = 2 ∨ c = 3 ∨ c = 4 ∨ c = 5 by omega) with rfl | rfl | rfl | rfl | rfl | rfl
  · exact m_reads_0 l hst D dA h0 aco ali acu a1 a2 apd asc fo wn bn hwb kf ca hkf sb tm ta fs pb pa bs fp g hf h4 k n hk hn
  · exact m_reads_1 l hst D dA h0 aco ali acu a1 a2 apd asc fo wn bn hwb kf ca hkf sb tm ta fs pb pa bs fp g hf h4 k n hk hn
  · exact m_reads_2 l hst D dA h0 aco ali acu a1 a2 apd asc fo wn bn hwb kf ca hkf sb tm ta fs pb pa bs fp g hf h4 k n hk hn
  · exact m_reads_3 l hst D dA h0 aco ali acu a1 a2 apd asc fo wn bn hwb kf ca hkf sb tm ta fs pb pa bs fp g hf h4 k n hk hn
  · exact m_reads_4 l hst D dA h0 aco ali acu a1 a2 apd asc fo wn bn hwb kf ca hkf sb tm ta fs pb pa bs fp g hf h4 k n hk hn
  · exact m_reads_5 l hst D dA h0 aco ali acu a1 a2 apd asc fo wn bn hwb kf ca hkf sb tm ta fs pb pa bs fp g hf h4 k n hk hn
set_option maxHeartbeats 4000000 in
/-- leave -/
theorem m_leave (l : Launch) (hst : l.stackTraces = false) (D : va_G) (dA : Nat → ClassId) (h0 aco ali acu a1 a2 apd asc fo wn bn : Nat) (hwb : wn ≤ 1000 ∧ bn ≤ 1000) (cf : Nat → Option Nat) (c0 c1 n0 n1 ap : Nat) (q0 q1 : Option Nat) (p0 p1 : Int32) (hc0 : cf 0 = some c0) (hc1 : cf 1 = some c1) : pc_V l yX1_leave cX1_leave 6 (pc_rm 1 0 0) D dA [.ref h0, .ref ap] [(h0, .inr (9, [.ref aco, .ref ali, .ref acu, .ref a1, .ref a2, .ref apd, .ref asc, .ref fo, .int (zI (((wn : Nat) : Int))), .int (zI (((bn : Nat) : Int)))])), (acu, .inl (dA 7, 2, .inr (.inr (.inr (.inr cf))))), (c0, .inr (8, [va_rf q0, .ref n0, .int (p0)])), (c1, .inr (8, [va_rf q1, .ref n1, .int (p1)]))] (fun _ : Unit => True) (fun _ => [(h0, .inr (9, [.ref aco, .ref ali, .ref acu, .ref a1, .ref a2, .ref apd, .ref asc, .ref fo, .int (zI (((wn : Nat) : Int))), .int (zI (((bn : Nat) : Int)))])), (acu, .inl (dA 7, 2, .inr (.inr (.inr (.inr cf))))), (c0, .inr (8, [va_rf (if q0 = some ap then none else q0), .ref n0, .int (p0)])), (c1, .inr (8, [va_rf (if q1 = some ap then none else q1), .ref n1, .int (p1)]))]) := by
  refine st_v hst (by decide) RX1 rfl (Nat.le_of_ble_eq_true rfl) ?_
  intro pg ev s mt args below meth cd R A Q hR X hin exit H locs hw ls hl
  subst hR
  have hl : lv_has ls 6 [(0, .ref h0), (1, .ref ap)] := hl
  refine lv_aload_n X.x X.b dX1_leave_0 rfl (lv_at hl 0 rfl) ?_
  refine z_get X hw in_X1 0 rfl rfl 2 (by decide) q184 rfl rfl dX1_leave_1 ?_
  refine lv_astore_n (lv' := [(2, .ref acu), (0, .ref h0), (1, .ref ap)]) X.x X.b dX1_leave_4 rfl hl (by decide) rfl (fun ls hl => ?_)
  refine lv_aload_n X.x X.b dX1_leave_5 rfl (lv_at hl 0 rfl) ?_
  refine z_alen (v := 2) X hw 1 7 rfl rfl rfl dX1_leave_6 ?_
  refine lv_istore_n (lv' := [(3, .int (zI 2)), (2, .ref acu), (0, .ref h0), (1, .ref ap)]) X.x X.b dX1_leave_7 rfl hl (by decide) rfl (fun ls hl => ?_)
  refine z_iconst X dX1_leave_8 ?_
  refine lv_istore (lv' := [(4, .int (zI 0)), (3, .int (zI 2)), (2, .ref acu), (0, .ref h0), (1, .ref ap)]) X.x X.b dX1_leave_9 hl (by decide) rfl (fun ls hl => ?_)
  refine lv_iload X.x X.b dX1_leave_11 (lv_at hl 0 rfl) ?_
  refine lv_iload_n X.x X.b dX1_leave_13 rfl (lv_at hl 1 rfl) ?_
  refine z_icmp_ge (tgt := 44) X dX1_leave_14 (by decide) (by omega) (by omega) (fun c_1 => ?_) (fun c_1 => ?_)
  · skip
    omega
  · skip
    refine lv_aload_n X.x X.b dX1_leave_17 rfl (lv_at hl 2 rfl) ?_
    refine lv_iload X.x X.b dX1_leave_18 (lv_at hl 0 rfl) ?_
    refine z_aald X hw 1 7 0 rfl rfl (by decide) (by omega) (v := .ref c0) (congrArg va_rf hc0) dX1_leave_20 ?_
    refine lv_astore (lv' := [(5, .ref c0), (4, .int (zI 0)), (3, .int (zI 2)), (2, .ref acu), (0, .ref h0), (1, .ref ap)]) X.x X.b dX1_leave_21 hl (by decide) rfl (fun ls hl => ?_)
    refine lv_aload X.x X.b dX1_leave_23 (lv_at hl 0 rfl) ?_
    refine z_get X hw in_X9 2 rfl rfl 0 (by decide) q121 rfl rfl dX1_leave_25 ?_
    refine lv_aload_n X.x X.b dX1_leave_28 rfl (lv_at hl 5 rfl) ?_
    refine lv_acmp_ne (tgt := 38) (rx := q0) (ry := (some ap)) X.x X.b dX1_leave_29 (by decide) (fun c_2 => ?_) (fun c_2 => ?_)
    · skip
      have hne0 := c_2
      refine z_iinc (lv' := [(4, .int (zI (0 + 1))), (5, .ref c0), (3, .int (zI 2)), (2, .ref acu), (0, .ref h0), (1, .ref ap)]) X dX1_leave_38 hl (k0 := 1) rfl (by decide) rfl (fun ls hl => ?_)
      refine lv_goto (tgt := 11) X.x X.b dX1_leave_41 (by decide) ?_
      refine lv_iload X.x X.b dX1_leave_11 (lv_at hl 0 rfl) ?_
      refine lv_iload_n X.x X.b dX1_leave_13 rfl (lv_at hl 2 rfl) ?_
      refine z_icmp_ge (tgt := 44) X dX1_leave_14 (by decide) (by omega) (by omega) (fun c_3 => ?_) (fun c_3 => ?_)
      · skip
        omega
      · skip
        refine lv_aload_n X.x X.b dX1_leave_17 rfl (lv_at hl 3 rfl) ?_
        refine lv_iload X.x X.b dX1_leave_18 (lv_at hl 0 rfl) ?_
        refine z_aald X hw 1 7 1 rfl rfl (by decide) (by omega) (v := .ref c1) (congrArg va_rf hc1) dX1_leave_20 ?_
        refine lv_astore (lv' := [(5, .ref c1), (4, .int (zI (0 + 1))), (3, .int (zI 2)), (2, .ref acu), (0, .ref h0), (1, .ref ap)]) X.x X.b dX1_leave_21 hl (by decide) rfl (fun ls hl => ?_)
        refine lv_aload X.x X.b dX1_leave_23 (lv_at hl 0 rfl) ?_
        refine z_get X hw in_X9 3 rfl rfl 0 (by decide) q121 rfl rfl dX1_leave_25 ?_
        refine lv_aload_n X.x X.b dX1_leave_28 rfl (lv_at hl 5 rfl) ?_
        refine lv_acmp_ne (tgt := 38) (rx := q1) (ry := (some ap)) X.x X.b dX1_leave_29 (by decide) (fun c_4 => ?_) (fun c_4 => ?_)
        · skip
          have hne1 := c_4
          refine z_iinc (lv' := [(4, .int (zI (0 + 1 + 1))), (5, .ref c1), (3, .int (zI 2)), (2, .ref acu), (0, .ref h0), (1, .ref ap)]) X dX1_leave_38 hl (k0 := 1) rfl (by decide) rfl (fun ls hl => ?_)
          refine lv_goto (tgt := 11) X.x X.b dX1_leave_41 (by decide) ?_
          refine lv_iload X.x X.b dX1_leave_11 (lv_at hl 0 rfl) ?_
          refine lv_iload_n X.x X.b dX1_leave_13 rfl (lv_at hl 2 rfl) ?_
          refine z_icmp_ge (tgt := 44) X dX1_leave_14 (by decide) (by omega) (by omega) (fun c_5 => ?_) (fun c_5 => ?_)
          · skip
            have hf0 : (if q0 = some ap then none else q0) = q0 := if_neg hne0
            have hf1 : (if q1 = some ap then none else q1) = q1 := if_neg hne1
            exact exit () dX1_leave_44 trivial (by rw [hf0, hf1]; exact hw) (Nat.zero_le _) (Nat.zero_le _)
          · skip
            omega
        · skip
          have heq1 := c_4
          refine lv_aload X.x X.b dX1_leave_32 (lv_at hl 0 rfl) ?_
          refine lv_null X.x X.b dX1_leave_34 ?_
          refine z_put X hw in_X9 tyX9 tyX9_ok nmX9 3 rfl rfl 0 (by decide) q121 rfl rfl rfl rfl (Nat.le_of_ble_eq_true rfl) dX1_leave_35 (fun H locs hw => ?_)
          have hw : pc_S D A s.heap [(h0, .inr (9, [.ref aco, .ref ali, .ref acu, .ref a1, .ref a2, .ref apd, .ref asc, .ref fo, .int (zI (((wn : Nat) : Int))), .int (zI (((bn : Nat) : Int)))])), (acu, .inl (dA 7, 2, .inr (.inr (.inr (.inr cf))))), (c0, .inr (8, [va_rf q0, .ref n0, .int (p0)])), (c1, .inr (8, [.null, .ref n1, .int (p1)]))] H locs := hw
          refine z_iinc (lv' := [(4, .int (zI (0 + 1 + 1))), (5, .ref c1), (3, .int (zI 2)), (2, .ref acu), (0, .ref h0), (1, .ref ap)]) X dX1_leave_38 hl (k0 := 1) rfl (by decide) rfl (fun ls hl => ?_)
          refine lv_goto (tgt := 11) X.x X.b dX1_leave_41 (by decide) ?_
          refine lv_iload X.x X.b dX1_leave_11 (lv_at hl 0 rfl) ?_
          refine lv_iload_n X.x X.b dX1_leave_13 rfl (lv_at hl 2 rfl) ?_
          refine z_icmp_ge (tgt := 44) X dX1_leave_14 (by decide) (by omega) (by omega) (fun c_6 => ?_) (fun c_6 => ?_)
          · skip
            have hf0 : (if q0 = some ap then none else q0) = q0 := if_neg hne0
            have hf1 : (if q1 = some ap then none else q1) = none := if_pos heq1
            exact exit () dX1_leave_44 trivial (by rw [hf0, hf1]; exact hw) (Nat.zero_le _) (Nat.zero_le _)
          · skip
            omega
    · skip
      have heq0 := c_2
      refine lv_aload X.x X.b dX1_leave_32 (lv_at hl 0 rfl) ?_
      refine lv_null X.x X.b dX1_leave_34 ?_
      refine z_put X hw in_X9 tyX9 tyX9_ok nmX9 2 rfl rfl 0 (by decide) q121 rfl rfl rfl rfl (Nat.le_of_ble_eq_true rfl) dX1_leave_35 (fun H locs hw => ?_)
      have hw : pc_S D A s.heap [(h0, .inr (9, [.ref aco, .ref ali, .ref acu, .ref a1, .ref a2, .ref apd, .ref asc, .ref fo, .int (zI (((wn : Nat) : Int))), .int (zI (((bn : Nat) : Int)))])), (acu, .inl (dA 7, 2, .inr (.inr (.inr (.inr cf))))), (c0, .inr (8, [.null, .ref n0, .int (p0)])), (c1, .inr (8, [va_rf q1, .ref n1, .int (p1)]))] H locs := hw
      refine z_iinc (lv' := [(4, .int (zI (0 + 1))), (5, .ref c0), (3, .int (zI 2)), (2, .ref acu), (0, .ref h0), (1, .ref ap)]) X dX1_leave_38 hl (k0 := 1) rfl (by decide) rfl (fun ls hl => ?_)
      refine lv_goto (tgt := 11) X.x X.b dX1_leave_41 (by decide) ?_
      refine lv_iload X.x X.b dX1_leave_11 (lv_at hl 0 rfl) ?_
      refine lv_iload_n X.x X.b dX1_leave_13 rfl (lv_at hl 2 rfl) ?_
      refine z_icmp_ge (tgt := 44) X dX1_leave_14 (by decide) (by omega) (by omega) (fun c_7 => ?_) (fun c_7 => ?_)
      · skip
        omega
      · skip
        refine lv_aload_n X.x X.b dX1_leave_17 rfl (lv_at hl 3 rfl) ?_
        refine lv_iload X.x X.b dX1_leave_18 (lv_at hl 0 rfl) ?_
        refine z_aald X hw 1 7 1 rfl rfl (by decide) (by omega) (v := .ref c1) (congrArg va_rf hc1) dX1_leave_20 ?_
        refine lv_astore (lv' := [(5, .ref c1), (4, .int (zI (0 + 1))), (3, .int (zI 2)), (2, .ref acu), (0, .ref h0), (1, .ref ap)]) X.x X.b dX1_leave_21 hl (by decide) rfl (fun ls hl => ?_)
        refine lv_aload X.x X.b dX1_leave_23 (lv_at hl 0 rfl) ?_
        refine z_get X hw in_X9 3 rfl rfl 0 (by decide) q121 rfl rfl dX1_leave_25 ?_
        refine lv_aload_n X.x X.b dX1_leave_28 rfl (lv_at hl 5 rfl) ?_
        refine lv_acmp_ne (tgt := 38) (rx := q1) (ry := (some ap)) X.x X.b dX1_leave_29 (by decide) (fun c_8 => ?_) (fun c_8 => ?_)
        · skip
          have hne1 := c_8
          refine z_iinc (lv' := [(4, .int (zI (0 + 1 + 1))), (5, .ref c1), (3, .int (zI 2)), (2, .ref acu), (0, .ref h0), (1, .ref ap)]) X dX1_leave_38 hl (k0 := 1) rfl (by decide) rfl (fun ls hl => ?_)
          refine lv_goto (tgt := 11) X.x X.b dX1_leave_41 (by decide) ?_
          refine lv_iload X.x X.b dX1_leave_11 (lv_at hl 0 rfl) ?_
          refine lv_iload_n X.x X.b dX1_leave_13 rfl (lv_at hl 2 rfl) ?_
          refine z_icmp_ge (tgt := 44) X dX1_leave_14 (by decide) (by omega) (by omega) (fun c_9 => ?_) (fun c_9 => ?_)
          · skip
            have hf0 : (if q0 = some ap then none else q0) = none := if_pos heq0
            have hf1 : (if q1 = some ap then none else q1) = q1 := if_neg hne1
            exact exit () dX1_leave_44 trivial (by rw [hf0, hf1]; exact hw) (Nat.zero_le _) (Nat.zero_le _)
          · skip
            omega
        · skip
          have heq1 := c_8
          refine lv_aload X.x X.b dX1_leave_32 (lv_at hl 0 rfl) ?_
          refine lv_null X.x X.b dX1_leave_34 ?_
          refine z_put X hw in_X9 tyX9 tyX9_ok nmX9 3 rfl rfl 0 (by decide) q121 rfl rfl rfl rfl (Nat.le_of_ble_eq_true rfl) dX1_leave_35 (fun H locs hw => ?_)
          have hw : pc_S D A s.heap [(h0, .inr (9, [.ref aco, .ref ali, .ref acu, .ref a1, .ref a2, .ref apd, .ref asc, .ref fo, .int (zI (((wn : Nat) : Int))), .int (zI (((bn : Nat) : Int)))])), (acu, .inl (dA 7, 2, .inr (.inr (.inr (.inr cf))))), (c0, .inr (8, [.null, .ref n0, .int (p0)])), (c1, .inr (8, [.null, .ref n1, .int (p1)]))] H locs := hw
          refine z_iinc (lv' := [(4, .int (zI (0 + 1 + 1))), (5, .ref c1), (3, .int (zI 2)), (2, .ref acu), (0, .ref h0), (1, .ref ap)]) X dX1_leave_38 hl (k0 := 1) rfl (by decide) rfl (fun ls hl => ?_)
          refine lv_goto (tgt := 11) X.x X.b dX1_leave_41 (by decide) ?_
          refine lv_iload X.x X.b dX1_leave_11 (lv_at hl 0 rfl) ?_
          refine lv_iload_n X.x X.b dX1_leave_13 rfl (lv_at hl 2 rfl) ?_
          refine z_icmp_ge (tgt := 44) X dX1_leave_14 (by decide) (by omega) (by omega) (fun c_10 => ?_) (fun c_10 => ?_)
          · skip
            have hf0 : (if q0 = some ap then none else q0) = none := if_pos heq0
            have hf1 : (if q1 = some ap then none else q1) = none := if_pos heq1
            exact exit () dX1_leave_44 trivial (by rw [hf0, hf1]; exact hw) (Nat.zero_le _) (Nat.zero_le _)
          · skip
            omega
set_option maxHeartbeats 4000000 in
/-- begin, code 0 -/
theorem m_begin_0 (l : Launch) (hst : l.stackTraces = false) (D : va_G) (dA : Nat → ClassId) (h0 aco ali acu a1 a2 apd asc fo wn bn : Nat) (hwb : wn ≤ 1000 ∧ bn ≤ 1000) (kf : Nat → Option Nat) (ca : Nat → Nat) (hkf : ∀ c, c < 6 → kf c = some (ca c)) (cc cn ap na ra rb : Nat) (lq : Option Nat) (tp ta : Int32) (xs : List Nat) (hv : Valid xs) (g fr : Nat → Int32) (bs : List Bool) (hf : RowIs bs fr) (h4 : bs.length ≤ 400) (k : Nat) (hk : k ≤ 7) (hde : dec 0 k bs xs.length = some xs) : pc_V l yX1_begin cX1_begin 3 (pc_rm 12 0 0) D dA [.ref h0, .ref cc, .ref ap] [(h0, .inr (9, [.ref aco, .ref ali, .ref acu, .ref a1, .ref a2, .ref apd, .ref asc, .ref fo, .int (zI (((wn : Nat) : Int))), .int (zI (((bn : Nat) : Int)))])), (aco, .inl (dA 5, 6, .inr (.inr (.inr (.inr kf))))), ((ca 0), .inr (1, [])), ((ca 1), .inr (2, [])), ((ca 2), .inr (3, [])), ((ca 3), .inr (4, [])), ((ca 4), .inr (5, [])), ((ca 5), .inr (6, [])), (cc, .inr (8, [va_rf lq, .ref cn, .int (tp)])), (cn, .inl (dA 1, 24, .inl g)), (ap, .inr (7, [.ref na, .ref ra, .int (zI (((xs.length : Nat) : Int))), .int (zI (((0 : Nat) : Int))), .int (zI (((k : Nat) : Int)))])), (ra, .inr (0, [.ref rb, .int (zI (((bs.length : Nat) : Int))), .int (ta)])), (rb, .inl (dA 0, 400, .inl fr))] (fun u : (Nat → Int32) × Int32 => ArrIs xs u.1) (fun u : (Nat → Int32) × Int32 => [(h0, .inr (9, [.ref aco, .ref ali, .ref acu, .ref a1, .ref a2, .ref apd, .ref asc, .ref fo, .int (zI (((wn : Nat) : Int))), .int (zI (((bn : Nat) : Int)))])), (aco, .inl (dA 5, 6, .inr (.inr (.inr (.inr kf))))), ((ca 0), .inr (1, [])), ((ca 1), .inr (2, [])), ((ca 2), .inr (3, [])), ((ca 3), .inr (4, [])), ((ca 4), .inr (5, [])), ((ca 5), .inr (6, [])), (cc, .inr (8, [.ref ap, .ref cn, .int (zI 0)])), (cn, .inl (dA 1, 24, .inl u.1)), (ap, .inr (7, [.ref na, .ref ra, .int (zI (((xs.length : Nat) : Int))), .int (zI (((0 : Nat) : Int))), .int (zI (((k : Nat) : Int)))])), (ra, .inr (0, [.ref rb, .int (zI (((bs.length : Nat) : Int))), .int (u.2)])), (rb, .inl (dA 0, 400, .inl fr))]) := by
  refine st_v hst (by decide) RX1 rfl (Nat.le_of_ble_eq_true rfl) ?_
  intro pg ev s mt args below meth cd R A Q hR X hin exit H locs hw ls hl
  subst hR
  have hl : lv_has ls 3 [(0, .ref h0), (1, .ref cc), (2, .ref ap)] := hl
  have hv1 := hv.1
  refine lv_aload_n X.x X.b dX1_begin_0 rfl (lv_at hl 1 rfl) ?_
  refine lv_aload_n X.x X.b dX1_begin_1 rfl (lv_at hl 2 rfl) ?_
  refine z_put X hw in_X9 tyX9 tyX9_ok nmX9 8 rfl rfl 0 (by decide) q121 rfl rfl rfl rfl (Nat.le_of_ble_eq_true rfl) dX1_begin_2 (fun H locs hw => ?_)
  have hw : pc_S D A s.heap [(h0, .inr (9, [.ref aco, .ref ali, .ref acu, .ref a1, .ref a2, .ref apd, .ref asc, .ref fo, .int (zI (((wn : Nat) : Int))), .int (zI (((bn : Nat) : Int)))])), (aco, .inl (dA 5, 6, .inr (.inr (.inr (.inr kf))))), ((ca 0), .inr (1, [])), ((ca 1), .inr (2, [])), ((ca 2), .inr (3, [])), ((ca 3), .inr (4, [])), ((ca 4), .inr (5, [])), ((ca 5), .inr (6, [])), (cc, .inr (8, [.ref ap, .ref cn, .int (tp)])), (cn, .inl (dA 1, 24, .inl g)), (ap, .inr (7, [.ref na, .ref ra, .int (zI (((xs.length : Nat) : Int))), .int (zI (((0 : Nat) : Int))), .int (zI (((k : Nat) : Int)))])), (ra, .inr (0, [.ref rb, .int (zI (((bs.length : Nat) : Int))), .int (ta)])), (rb, .inl (dA 0, 400, .inl fr))] H locs := hw
  refine lv_aload_n X.x X.b dX1_begin_5 rfl (lv_at hl 1 rfl) ?_
  refine z_iconst X dX1_begin_6 ?_
  refine z_put X hw in_X9 tyX9 tyX9_ok nmX9 8 rfl rfl 2 (by decide) q125 rfl rfl rfl rfl (Nat.le_of_ble_eq_true rfl) dX1_begin_7 (fun H locs hw => ?_)
  have hw : pc_S D A s.heap [(h0, .inr (9, [.ref aco, .ref ali, .ref acu, .ref a1, .ref a2, .ref apd, .ref asc, .ref fo, .int (zI (((wn : Nat) : Int))), .int (zI (((bn : Nat) : Int)))])), (aco, .inl (dA 5, 6, .inr (.inr (.inr (.inr kf))))), ((ca 0), .inr (1, [])), ((ca 1), .inr (2, [])), ((ca 2), .inr (3, [])), ((ca 3), .inr (4, [])), ((ca 4), .inr (5, [])), ((ca 5), .inr (6, [])), (cc, .inr (8, [.ref ap, .ref cn, .int (zI 0)])), (cn, .inl (dA 1, 24, .inl g)), (ap, .inr (7, [.ref na, .ref ra, .int (zI (((xs.length : Nat) : Int))), .int (zI (((0 : Nat) : Int))), .int (zI (((k : Nat) : Int)))])), (ra, .inr (0, [.ref rb, .int (zI (((bs.length : Nat) : Int))), .int (ta)])), (rb, .inl (dA 0, 400, .inl fr))] H locs := hw
  refine lv_aload_n X.x X.b dX1_begin_10 rfl (lv_at hl 2 rfl) ?_
  refine z_get X hw in_X11 10 rfl rfl 1 (by decide) q163 rfl rfl dX1_begin_11 ?_
  refine z_iconst X dX1_begin_14 ?_
  refine z_put X hw in_X10 tyX10 tyX10_ok nmX10 11 rfl rfl 2 (by decide) q144 rfl rfl rfl rfl (Nat.le_of_ble_eq_true rfl) dX1_begin_15 (fun H locs hw => ?_)
  have hw : pc_S D A s.heap [(h0, .inr (9, [.ref aco, .ref ali, .ref acu, .ref a1, .ref a2, .ref apd, .ref asc, .ref fo, .int (zI (((wn : Nat) : Int))), .int (zI (((bn : Nat) : Int)))])), (aco, .inl (dA 5, 6, .inr (.inr (.inr (.inr kf))))), ((ca 0), .inr (1, [])), ((ca 1), .inr (2, [])), ((ca 2), .inr (3, [])), ((ca 3), .inr (4, [])), ((ca 4), .inr (5, [])), ((ca 5), .inr (6, [])), (cc, .inr (8, [.ref ap, .ref cn, .int (zI 0)])), (cn, .inl (dA 1, 24, .inl g)), (ap, .inr (7, [.ref na, .ref ra, .int (zI (((xs.length : Nat) : Int))), .int (zI (((0 : Nat) : Int))), .int (zI (((k : Nat) : Int)))])), (ra, .inr (0, [.ref rb, .int (zI (((bs.length : Nat) : Int))), .int (zI 0)])), (rb, .inl (dA 0, 400, .inl fr))] H locs := hw
  refine lv_aload_n X.x X.b dX1_begin_18 rfl (lv_at hl 0 rfl) ?_
  refine z_get X hw in_X1 0 rfl rfl 0 (by decide) q182 rfl rfl dX1_begin_19 ?_
  refine lv_aload_n X.x X.b dX1_begin_22 rfl (lv_at hl 2 rfl) ?_
  refine z_get X hw in_X11 10 rfl rfl 3 (by decide) q168 rfl rfl dX1_begin_23 ?_
  refine z_aald X hw 1 5 0 rfl rfl (by decide) (by omega) (v := .ref (ca 0)) (congrArg va_rf (hkf 0 (by decide))) dX1_begin_26 ?_
  refine lv_aload_n X.x X.b dX1_begin_27 rfl (lv_at hl 2 rfl) ?_
  refine z_get X hw in_X11 10 rfl rfl 1 (by decide) q163 rfl rfl dX1_begin_28 ?_
  refine lv_aload_n X.x X.b dX1_begin_31 rfl (lv_at hl 1 rfl) ?_
  refine z_get X hw in_X9 8 rfl rfl 1 (by decide) q123 rfl rfl dX1_begin_32 ?_
  refine lv_aload_n X.x X.b dX1_begin_35 rfl (lv_at hl 2 rfl) ?_
  refine z_get X hw in_X11 10 rfl rfl 2 (by decide) q166 rfl rfl dX1_begin_36 ?_
  refine lv_aload_n X.x X.b dX1_begin_39 rfl (lv_at hl 2 rfl) ?_
  refine z_get X hw in_X11 10 rfl rfl 4 (by decide) q170 rfl rfl dX1_begin_40 ?_
  obtain ⟨t_1, ht_1⟩ : ∃ q : Bool, q = ((decP 0 k bs xs.length).isNone) := ⟨_, rfl⟩
  have hff : t_1 = false := by
    have h8 : (dec 0 k bs xs.length).isNone = false := by rw [hde]; rfl
    have h7 : (Option.map (fun q => q.1) (decP 0 k bs xs.length)).isNone = false := h8
    rw [isNone_map] at h7
    rw [ht_1]; exact h7
  refine cx_v5 (c1 := 0) (s1 := 0) X hw [2, 11, 12, 9] [0, 1, 3, 4, 5, 6, 7, 8, 10] (wr := [(h0, .inr (9, [.ref aco, .ref ali, .ref acu, .ref a1, .ref a2, .ref apd, .ref asc, .ref fo, .int (zI (((wn : Nat) : Int))), .int (zI (((bn : Nat) : Int)))])), (aco, .inl (dA 5, 6, .inr (.inr (.inr (.inr kf))))), ((ca 1), .inr (2, [])), ((ca 2), .inr (3, [])), ((ca 3), .inr (4, [])), ((ca 4), .inr (5, [])), ((ca 5), .inr (6, [])), (cc, .inr (8, [.ref ap, .ref cn, .int (zI 0)])), (ap, .inr (7, [.ref na, .ref ra, .int (zI (((xs.length : Nat) : Int))), .int (zI (((0 : Nat) : Int))), .int (zI (((k : Nat) : Int)))]))]) (vx_runF (As := [.ref ra, .ref cn, .int (zI (((xs.length : Nat) : Int))), .int (zI (((k : Nat) : Int)))]) (rest := []) (pc_at X 1 rfl) X.fix (m_dec_0 l hst D dA (ca 0) ra rb cn bs k xs.length fr g hf h4 hk (by omega) t_1 ht_1 _) (va_cwF (x := (mn_ "PostingCodes$Code" "decode" "(LPostingCodes$Row;[SII)V")) (C := RX3) 4 X.t (lw_F q516 q519 q521 q38 q523) rfl rfl rfl (pc_nf X.N 6 rfl) (by decide +kernel) (pc_rmle (by decide) (by decide))) (pc_preV X hw [2, 11, 12, 9] rfl rfl 1 2 rfl rfl rfl) rfl rfl hl.1 rfl (lv_room (Nat.le_of_ble_eq_true rfl)) dX1_begin_43 (pc_c1 (t' := false) (fun h => by rw [hff] at h; cases h))) rfl rfl rfl rfl (fun E ce q9 ux_4 H locs hq hw h1 h2 h3 => ?_) (fun u hq => pc_c0 hq.1) (fun u_3 H locs hq hw => ?_)
  · skip
    exfalso
    have h9 := hq.2
    rw [ht_1] at h9
    have h8 : (dec 0 k bs xs.length).isNone = true := by
      show (Option.map _ _).isNone = true
      rw [isNone_map]; exact h9
    rw [hde] at h8; cases h8
  · skip
    obtain ⟨fd, ad⟩ := u_3
    have hw : pc_S D A s.heap [(h0, .inr (9, [.ref aco, .ref ali, .ref acu, .ref a1, .ref a2, .ref apd, .ref asc, .ref fo, .int (zI (((wn : Nat) : Int))), .int (zI (((bn : Nat) : Int)))])), (aco, .inl (dA 5, 6, .inr (.inr (.inr (.inr kf))))), ((ca 1), .inr (2, [])), ((ca 2), .inr (3, [])), ((ca 3), .inr (4, [])), ((ca 4), .inr (5, [])), ((ca 5), .inr (6, [])), (cc, .inr (8, [.ref ap, .ref cn, .int (zI 0)])), (ap, .inr (7, [.ref na, .ref ra, .int (zI (((xs.length : Nat) : Int))), .int (zI (((0 : Nat) : Int))), .int (zI (((k : Nat) : Int)))])), ((ca 0), .inr (1, [])), (ra, .inr (0, [.ref rb, .int (zI (((bs.length : Nat) : Int))), .int (ad)])), (rb, .inl (dA 0, 400, .inl fr)), (cn, .inl (dA 1, 24, .inl fd))] H locs := hw
    obtain ⟨hq, ys, qq, hd, hfa⟩ := hq
    have hdec : dec 0 k bs xs.length = some ys := by
      show Option.map _ _ = _
      rw [hd]; rfl
    dsimp only at hfa
    have hw : pc_S D A s.heap [(h0, .inr (9, [.ref aco, .ref ali, .ref acu, .ref a1, .ref a2, .ref apd, .ref asc, .ref fo, .int (zI (((wn : Nat) : Int))), .int (zI (((bn : Nat) : Int)))])), (aco, .inl (dA 5, 6, .inr (.inr (.inr (.inr kf))))), ((ca 0), .inr (1, [])), ((ca 1), .inr (2, [])), ((ca 2), .inr (3, [])), ((ca 3), .inr (4, [])), ((ca 4), .inr (5, [])), ((ca 5), .inr (6, [])), (cc, .inr (8, [.ref ap, .ref cn, .int (zI 0)])), (cn, .inl (dA 1, 24, .inl fd)), (ap, .inr (7, [.ref na, .ref ra, .int (zI (((xs.length : Nat) : Int))), .int (zI (((0 : Nat) : Int))), .int (zI (((k : Nat) : Int)))])), (ra, .inr (0, [.ref rb, .int (zI (((bs.length : Nat) : Int))), .int (ad)])), (rb, .inl (dA 0, 400, .inl fr))] H locs := hw.sub [0, 1, 9, 2, 3, 4, 5, 6, 7, 12, 8, 10, 11] rfl rfl
    rw [hdec] at hde
    cases hde
    exact exit (fd, ad) dX1_begin_48 hfa hw (Nat.zero_le _) (Nat.zero_le _)
set_option maxHeartbeats 4000000 in
/-- begin, code 1 -/
theorem m_begin_1 (l : Launch) (hst : l.stackTraces = false) (D : va_G) (dA : Nat → ClassId) (h0 aco ali acu a1 a2 apd asc fo wn bn : Nat) (hwb : wn ≤ 1000 ∧ bn ≤ 1000) (kf : Nat → Option Nat) (ca : Nat → Nat) (hkf : ∀ c, c < 6 → kf c = some (ca c)) (cc cn ap na ra rb : Nat) (lq : Option Nat) (tp ta : Int32) (xs : List Nat) (hv : Valid xs) (g fr : Nat → Int32) (bs : List Bool) (hf : RowIs bs fr) (h4 : bs.length ≤ 400) (k : Nat) (hk : k ≤ 7) (hde : dec 1 k bs xs.length = some xs) : pc_V l yX1_begin cX1_begin 3 (pc_rm 12 0 0) D dA [.ref h0, .ref cc, .ref ap] [(h0, .inr (9, [.ref aco, .ref ali, .ref acu, .ref a1, .ref a2, .ref apd, .ref asc, .ref fo, .int (zI (((wn : Nat) : Int))), .int (zI (((bn : Nat) : Int)))])), (aco, .inl (dA 5, 6, .inr (.inr (.inr (.inr kf))))), ((ca 0), .inr (1, [])), ((ca 1), .inr (2, [])), ((ca 2), .inr (3, [])), ((ca 3), .inr (4, [])), ((ca 4), .inr (5, [])), ((ca 5), .inr (6, [])), (cc, .inr (8, [va_rf lq, .ref cn, .int (tp)])), (cn, .inl (dA 1, 24, .inl g)), (ap, .inr (7, [.ref na, .ref ra, .int (zI (((xs.length : Nat) : Int))), .int (zI (((1 : Nat) : Int))), .int (zI (((k : Nat) : Int)))])), (ra, .inr (0, [.ref rb, .int (zI (((bs.length : Nat) : Int))), .int (ta)])), (rb, .inl (dA 0, 400, .inl fr))] (fun u : (Nat → Int32) × Int32 => ArrIs xs u.1) (fun u : (Nat → Int32) × Int32 => [(h0, .inr (9, [.ref aco, .ref ali, .ref acu, .ref a1, .ref a2, .ref apd, .ref asc, .ref fo, .int (zI (((wn : Nat) : Int))), .int (zI (((bn : Nat) : Int)))])), (aco, .inl (dA 5, 6, .inr (.inr (.inr (.inr kf))))), ((ca 0), .inr (1, [])), ((ca 1), .inr (2, [])), ((ca 2), .inr (3, [])), ((ca 3), .inr (4, [])), ((ca 4), .inr (5, [])), ((ca 5), .inr (6, [])), (cc, .inr (8, [.ref ap, .ref cn, .int (zI 0)])), (cn, .inl (dA 1, 24, .inl u.1)), (ap, .inr (7, [.ref na, .ref ra, .int (zI (((xs.length : Nat) : Int))), .int (zI (((1 : Nat) : Int))), .int (zI (((k : Nat) : Int)))])), (ra, .inr (0, [.ref rb, .int (zI (((bs.length : Nat) : Int))), .int (u.2)])), (rb, .inl (dA 0, 400, .inl fr))]) := by
  refine st_v hst (by decide) RX1 rfl (Nat.le_of_ble_eq_true rfl) ?_
  intro pg ev s mt args below meth cd R A Q hR X hin exit H locs hw ls hl
  subst hR
  have hl : lv_has ls 3 [(0, .ref h0), (1, .ref cc), (2, .ref ap)] := hl
  have hv1 := hv.1
  refine lv_aload_n X.x X.b dX1_begin_0 rfl (lv_at hl 1 rfl) ?_
  refine lv_aload_n X.x X.b dX1_begin_1 rfl (lv_at hl 2 rfl) ?_
  refine z_put X hw in_X9 tyX9 tyX9_ok nmX9 8 rfl rfl 0 (by decide) q121 rfl rfl rfl rfl (Nat.le_of_ble_eq_true rfl) dX1_begin_2 (fun H locs hw => ?_)
  have hw : pc_S D A s.heap [(h0, .inr (9, [.ref aco, .ref ali, .ref acu, .ref a1, .ref a2, .ref apd, .ref asc, .ref fo, .int (zI (((wn : Nat) : Int))), .int (zI (((bn : Nat) : Int)))])), (aco, .inl (dA 5, 6, .inr (.inr (.inr (.inr kf))))), ((ca 0), .inr (1, [])), ((ca 1), .inr (2, [])), ((ca 2), .inr (3, [])), ((ca 3), .inr (4, [])), ((ca 4), .inr (5, [])), ((ca 5), .inr (6, [])), (cc, .inr (8, [.ref ap, .ref cn, .int (tp)])), (cn, .inl (dA 1, 24, .inl g)), (ap, .inr (7, [.ref na, .ref ra, .int (zI (((xs.length : Nat) : Int))), .int (zI (((1 : Nat) : Int))), .int (zI (((k : Nat) : Int)))])), (ra, .inr (0, [.ref rb, .int (zI (((bs.length : Nat) : Int))), .int (ta)])), (rb, .inl (dA 0, 400, .inl fr))] H locs := hw
  refine lv_aload_n X.x X.b dX1_begin_5 rfl (lv_at hl 1 rfl) ?_
  refine z_iconst X dX1_begin_6 ?_
  refine z_put X hw in_X9 tyX9 tyX9_ok nmX9 8 rfl rfl 2 (by decide) q125 rfl rfl rfl rfl (Nat.le_of_ble_eq_true rfl) dX1_begin_7 (fun H locs hw => ?_)
  have hw : pc_S D A s.heap [(h0, .inr (9, [.ref aco, .ref ali, .ref acu, .ref a1, .ref a2, .ref apd, .ref asc, .ref fo, .int (zI (((wn : Nat) : Int))), .int (zI (((bn : Nat) : Int)))])), (aco, .inl (dA 5, 6, .inr (.inr (.inr (.inr kf))))), ((ca 0), .inr (1, [])), ((ca 1), .inr (2, [])), ((ca 2), .inr (3, [])), ((ca 3), .inr (4, [])), ((ca 4), .inr (5, [])), ((ca 5), .inr (6, [])), (cc, .inr (8, [.ref ap, .ref cn, .int (zI 0)])), (cn, .inl (dA 1, 24, .inl g)), (ap, .inr (7, [.ref na, .ref ra, .int (zI (((xs.length : Nat) : Int))), .int (zI (((1 : Nat) : Int))), .int (zI (((k : Nat) : Int)))])), (ra, .inr (0, [.ref rb, .int (zI (((bs.length : Nat) : Int))), .int (ta)])), (rb, .inl (dA 0, 400, .inl fr))] H locs := hw
  refine lv_aload_n X.x X.b dX1_begin_10 rfl (lv_at hl 2 rfl) ?_
  refine z_get X hw in_X11 10 rfl rfl 1 (by decide) q163 rfl rfl dX1_begin_11 ?_
  refine z_iconst X dX1_begin_14 ?_
  refine z_put X hw in_X10 tyX10 tyX10_ok nmX10 11 rfl rfl 2 (by decide) q144 rfl rfl rfl rfl (Nat.le_of_ble_eq_true rfl) dX1_begin_15 (fun H locs hw => ?_)
  have hw : pc_S D A s.heap [(h0, .inr (9, [.ref aco, .ref ali, .ref acu, .ref a1, .ref a2, .ref apd, .ref asc, .ref fo, .int (zI (((wn : Nat) : Int))), .int (zI (((bn : Nat) : Int)))])), (aco, .inl (dA 5, 6, .inr (.inr (.inr (.inr kf))))), ((ca 0), .inr (1, [])), ((ca 1), .inr (2, [])), ((ca 2), .inr (3, [])), ((ca 3), .inr (4, [])), ((ca 4), .inr (5, [])), ((ca 5), .inr (6, [])), (cc, .inr (8, [.ref ap, .ref cn, .int (zI 0)])), (cn, .inl (dA 1, 24, .inl g)), (ap, .inr (7, [.ref na, .ref ra, .int (zI (((xs.length : Nat) : Int))), .int (zI (((1 : Nat) : Int))), .int (zI (((k : Nat) : Int)))])), (ra, .inr (0, [.ref rb, .int (zI (((bs.length : Nat) : Int))), .int (zI 0)])), (rb, .inl (dA 0, 400, .inl fr))] H locs := hw
  refine lv_aload_n X.x X.b dX1_begin_18 rfl (lv_at hl 0 rfl) ?_
  refine z_get X hw in_X1 0 rfl rfl 0 (by decide) q182 rfl rfl dX1_begin_19 ?_
  refine lv_aload_n X.x X.b dX1_begin_22 rfl (lv_at hl 2 rfl) ?_
  refine z_get X hw in_X11 10 rfl rfl 3 (by decide) q168 rfl rfl dX1_begin_23 ?_
  refine z_aald X hw 1 5 1 rfl rfl (by decide) (by omega) (v := .ref (ca 1)) (congrArg va_rf (hkf 1 (by decide))) dX1_begin_26 ?_
  refine lv_aload_n X.x X.b dX1_begin_27 rfl (lv_at hl 2 rfl) ?_
  refine z_get X hw in_X11 10 rfl rfl 1 (by decide) q163 rfl rfl dX1_begin_28 ?_
  refine lv_aload_n X.x X.b dX1_begin_31 rfl (lv_at hl 1 rfl) ?_
  refine z_get X hw in_X9 8 rfl rfl 1 (by decide) q123 rfl rfl dX1_begin_32 ?_
  refine lv_aload_n X.x X.b dX1_begin_35 rfl (lv_at hl 2 rfl) ?_
  refine z_get X hw in_X11 10 rfl rfl 2 (by decide) q166 rfl rfl dX1_begin_36 ?_
  refine lv_aload_n X.x X.b dX1_begin_39 rfl (lv_at hl 2 rfl) ?_
  refine z_get X hw in_X11 10 rfl rfl 4 (by decide) q170 rfl rfl dX1_begin_40 ?_
  obtain ⟨t_1, ht_1⟩ : ∃ q : Bool, q = ((decP 1 k bs xs.length).isNone) := ⟨_, rfl⟩
  have hff : t_1 = false := by
    have h8 : (dec 1 k bs xs.length).isNone = false := by rw [hde]; rfl
    have h7 : (Option.map (fun q => q.1) (decP 1 k bs xs.length)).isNone = false := h8
    rw [isNone_map] at h7
    rw [ht_1]; exact h7
  refine cx_v5 (c1 := 0) (s1 := 0) X hw [3, 11, 12, 9] [0, 1, 2, 4, 5, 6, 7, 8, 10] (wr := [(h0, .inr (9, [.ref aco, .ref ali, .ref acu, .ref a1, .ref a2, .ref apd, .ref asc, .ref fo, .int (zI (((wn : Nat) : Int))), .int (zI (((bn : Nat) : Int)))])), (aco, .inl (dA 5, 6, .inr (.inr (.inr (.inr kf))))), ((ca 0), .inr (1, [])), ((ca 2), .inr (3, [])), ((ca 3), .inr (4, [])), ((ca 4), .inr (5, [])), ((ca 5), .inr (6, [])), (cc, .inr (8, [.ref ap, .ref cn, .int (zI 0)])), (ap, .inr (7, [.ref na, .ref ra, .int (zI (((xs.length : Nat) : Int))), .int (zI (((1 : Nat) : Int))), .int (zI (((k : Nat) : Int)))]))]) (vx_runF (As := [.ref ra, .ref cn, .int (zI (((xs.length : Nat) : Int))), .int (zI (((k : Nat) : Int)))]) (rest := []) (pc_at X 2 rfl) X.fix (m_dec_1 l hst D dA (ca 1) ra rb cn bs k xs.length fr g hf h4 hk (by omega) t_1 ht_1 _) (va_cwF (x := (mn_ "PostingCodes$Code" "decode" "(LPostingCodes$Row;[SII)V")) (C := RX4) 4 X.t (lw_F q516 q560 q521 q38 q523) rfl rfl rfl (pc_nf X.N 7 rfl) (by decide +kernel) (pc_rmle (by decide) (by decide))) (pc_preV X hw [3, 11, 12, 9] rfl rfl 2 3 rfl rfl rfl) rfl rfl hl.1 rfl (lv_room (Nat.le_of_ble_eq_true rfl)) dX1_begin_43 (pc_c1 (t' := false) (fun h => by rw [hff] at h; cases h))) rfl rfl rfl rfl (fun E ce q9 ux_4 H locs hq hw h1 h2 h3 => ?_) (fun u hq => pc_c0 hq.1) (fun u_3 H locs hq hw => ?_)
  · skip
    exfalso
    have h9 := hq.2
    rw [ht_1] at h9
    have h8 : (dec 1 k bs xs.length).isNone = true := by
      show (Option.map _ _).isNone = true
      rw [isNone_map]; exact h9
    rw [hde] at h8; cases h8
  · skip
    obtain ⟨fd, ad⟩ := u_3
    have hw : pc_S D A s.heap [(h0, .inr (9, [.ref aco, .ref ali, .ref acu, .ref a1, .ref a2, .ref apd, .ref asc, .ref fo, .int (zI (((wn : Nat) : Int))), .int (zI (((bn : Nat) : Int)))])), (aco, .inl (dA 5, 6, .inr (.inr (.inr (.inr kf))))), ((ca 0), .inr (1, [])), ((ca 2), .inr (3, [])), ((ca 3), .inr (4, [])), ((ca 4), .inr (5, [])), ((ca 5), .inr (6, [])), (cc, .inr (8, [.ref ap, .ref cn, .int (zI 0)])), (ap, .inr (7, [.ref na, .ref ra, .int (zI (((xs.length : Nat) : Int))), .int (zI (((1 : Nat) : Int))), .int (zI (((k : Nat) : Int)))])), ((ca 1), .inr (2, [])), (ra, .inr (0, [.ref rb, .int (zI (((bs.length : Nat) : Int))), .int (ad)])), (rb, .inl (dA 0, 400, .inl fr)), (cn, .inl (dA 1, 24, .inl fd))] H locs := hw
    obtain ⟨hq, ys, qq, hd, hfa⟩ := hq
    have hdec : dec 1 k bs xs.length = some ys := by
      show Option.map _ _ = _
      rw [hd]; rfl
    dsimp only at hfa
    have hw : pc_S D A s.heap [(h0, .inr (9, [.ref aco, .ref ali, .ref acu, .ref a1, .ref a2, .ref apd, .ref asc, .ref fo, .int (zI (((wn : Nat) : Int))), .int (zI (((bn : Nat) : Int)))])), (aco, .inl (dA 5, 6, .inr (.inr (.inr (.inr kf))))), ((ca 0), .inr (1, [])), ((ca 1), .inr (2, [])), ((ca 2), .inr (3, [])), ((ca 3), .inr (4, [])), ((ca 4), .inr (5, [])), ((ca 5), .inr (6, [])), (cc, .inr (8, [.ref ap, .ref cn, .int (zI 0)])), (cn, .inl (dA 1, 24, .inl fd)), (ap, .inr (7, [.ref na, .ref ra, .int (zI (((xs.length : Nat) : Int))), .int (zI (((1 : Nat) : Int))), .int (zI (((k : Nat) : Int)))])), (ra, .inr (0, [.ref rb, .int (zI (((bs.length : Nat) : Int))), .int (ad)])), (rb, .inl (dA 0, 400, .inl fr))] H locs := hw.sub [0, 1, 2, 9, 3, 4, 5, 6, 7, 12, 8, 10, 11] rfl rfl
    rw [hdec] at hde
    cases hde
    exact exit (fd, ad) dX1_begin_48 hfa hw (Nat.zero_le _) (Nat.zero_le _)
set_option maxHeartbeats 4000000 in
/-- begin, code 2 -/
theorem m_begin_2 (l : Launch) (hst : l.stackTraces = false) (D : va_G) (dA : Nat → ClassId) (h0 aco ali acu a1 a2 apd asc fo wn bn : Nat) (hwb : wn ≤ 1000 ∧ bn ≤ 1000) (kf : Nat → Option Nat) (ca : Nat → Nat) (hkf : ∀ c, c < 6 → kf c = some (ca c)) (cc cn ap na ra rb : Nat) (lq : Option Nat) (tp ta : Int32) (xs : List Nat) (hv : Valid xs) (g fr : Nat → Int32) (bs : List Bool) (hf : RowIs bs fr) (h4 : bs.length ≤ 400) (k : Nat) (hk : k ≤ 7) (hde : dec 2 k bs xs.length = some xs) : pc_V l yX1_begin cX1_begin 3 (pc_rm 12 0 0) D dA [.ref h0, .ref cc, .ref ap] [(h0, .inr (9, [.ref aco, .ref ali, .ref acu, .ref a1, .ref a2, .ref apd, .ref asc, .ref fo, .int (zI (((wn : Nat) : Int))), .int (zI (((bn : Nat) : Int)))])), (aco, .inl (dA 5, 6, .inr (.inr (.inr (.inr kf))))), ((ca 0), .inr (1, [])), ((ca 1), .inr (2, [])), ((ca 2), .inr (3, [])), ((ca 3), .inr (4, [])), ((ca 4), .inr (5, [])), ((ca 5), .inr (6, [])), (cc, .inr (8, [va_rf lq, .ref cn, .int (tp)])), (cn, .inl (dA 1, 24, .inl g)), (ap, .inr (7, [.ref na, .ref ra, .int (zI (((xs.length : Nat) : Int))), .int (zI (((2 : Nat) : Int))), .int (zI (((k : Nat) : Int)))])), (ra, .inr (0, [.ref rb, .int (zI (((bs.length : Nat) : Int))), .int (ta)])), (rb, .inl (dA 0, 400, .inl fr))] (fun u : (Nat → Int32) × Int32 => ArrIs xs u.1) (fun u : (Nat → Int32) × Int32 => [(h0, .inr (9, [.ref aco, .ref ali, .ref acu, .ref a1, .ref a2, .ref apd, .ref asc, .ref fo, .int (zI (((wn : Nat) : Int))), .int (zI (((bn : Nat) : Int)))])), (aco, .inl (dA 5, 6, .inr (.inr (.inr (.inr kf))))), ((ca 0), .inr (1, [])), ((ca 1), .inr (2, [])), ((ca 2), .inr (3, [])), ((ca 3), .inr (4, [])), ((ca 4), .inr (5, [])), ((ca 5), .inr (6, [])), (cc, .inr (8, [.ref ap, .ref cn, .int (zI 0)])), (cn, .inl (dA 1, 24, .inl u.1)), (ap, .inr (7, [.ref na, .ref ra, .int (zI (((xs.length : Nat) : Int))), .int (zI (((2 : Nat) : Int))), .int (zI (((k : Nat) : Int)))])), (ra, .inr (0, [.ref rb, .int (zI (((bs.length : Nat) : Int))), .int (u.2)])), (rb, .inl (dA 0, 400, .inl fr))]) := by
  refine st_v hst (by decide) RX1 rfl (Nat.le_of_ble_eq_true rfl) ?_
  intro pg ev s mt args below meth cd R A Q hR X hin exit H locs hw ls hl
  subst hR
  have hl : lv_has ls 3 [(0, .ref h0), (1, .ref cc), (2, .ref ap)] := hl
  have hv1 := hv.1
  refine lv_aload_n X.x X.b dX1_begin_0 rfl (lv_at hl 1 rfl) ?_
  refine lv_aload_n X.x X.b dX1_begin_1 rfl (lv_at hl 2 rfl) ?_
  refine z_put X hw in_X9 tyX9 tyX9_ok nmX9 8 rfl rfl 0 (by decide) q121 rfl rfl rfl rfl (Nat.le_of_ble_eq_true rfl) dX1_begin_2 (fun H locs hw => ?_)
  have hw : pc_S D A s.heap [(h0, .inr (9, [.ref aco, .ref ali, .ref acu, .ref a1, .ref a2, .ref apd, .ref asc, .ref fo, .int (zI (((wn : Nat) : Int))), .int (zI (((bn : Nat) : Int)))])), (aco, .inl (dA 5, 6, .inr (.inr (.inr (.inr kf))))), ((ca 0), .inr (1, [])), ((ca 1), .inr (2, [])), ((ca 2), .inr (3, [])), ((ca 3), .inr (4, [])), ((ca 4), .inr (5, [])), ((ca 5), .inr (6, [])), (cc, .inr (8, [.ref ap, .ref cn, .int (tp)])), (cn, .inl (dA 1, 24, .inl g)), (ap, .inr (7, [.ref na, .ref ra, .int (zI (((xs.length : Nat) : Int))), .int (zI (((2 : Nat) : Int))), .int (zI (((k : Nat) : Int)))])), (ra, .inr (0, [.ref rb, .int (zI (((bs.length : Nat) : Int))), .int (ta)])), (rb, .inl (dA 0, 400, .inl fr))] H locs := hw
  refine lv_aload_n X.x X.b dX1_begin_5 rfl (lv_at hl 1 rfl) ?_
  refine z_iconst X dX1_begin_6 ?_
  refine z_put X hw in_X9 tyX9 tyX9_ok nmX9 8 rfl rfl 2 (by decide) q125 rfl rfl rfl rfl (Nat.le_of_ble_eq_true rfl) dX1_begin_7 (fun H locs hw => ?_)
  have hw : pc_S D A s.heap [(h0, .inr (9, [.ref aco, .ref ali, .ref acu, .ref a1, .ref a2, .ref apd, .ref asc, .ref fo, .int (zI (((wn : Nat) : Int))), .int (zI (((bn : Nat) : Int)))])), (aco, .inl (dA 5, 6, .inr (.inr (.inr (.inr kf))))), ((ca 0), .inr (1, [])), ((ca 1), .inr (2, [])), ((ca 2), .inr (3, [])), ((ca 3), .inr (4, [])), ((ca 4), .inr (5, [])), ((ca 5), .inr (6, [])), (cc, .inr (8, [.ref ap, .ref cn, .int (zI 0)])), (cn, .inl (dA 1, 24, .inl g)), (ap, .inr (7, [.ref na, .ref ra, .int (zI (((xs.length : Nat) : Int))), .int (zI (((2 : Nat) : Int))), .int (zI (((k : Nat) : Int)))])), (ra, .inr (0, [.ref rb, .int (zI (((bs.length : Nat) : Int))), .int (ta)])), (rb, .inl (dA 0, 400, .inl fr))] H locs := hw
  refine lv_aload_n X.x X.b dX1_begin_10 rfl (lv_at hl 2 rfl) ?_
  refine z_get X hw in_X11 10 rfl rfl 1 (by decide) q163 rfl rfl dX1_begin_11 ?_
  refine z_iconst X dX1_begin_14 ?_
  refine z_put X hw in_X10 tyX10 tyX10_ok nmX10 11 rfl rfl 2 (by decide) q144 rfl rfl rfl rfl (Nat.le_of_ble_eq_true rfl) dX1_begin_15 (fun H locs hw => ?_)
  have hw : pc_S D A s.heap [(h0, .inr (9, [.ref aco, .ref ali, .ref acu, .ref a1, .ref a2, .ref apd, .ref asc, .ref fo, .int (zI (((wn : Nat) : Int))), .int (zI (((bn : Nat) : Int)))])), (aco, .inl (dA 5, 6, .inr (.inr (.inr (.inr kf))))), ((ca 0), .inr (1, [])), ((ca 1), .inr (2, [])), ((ca 2), .inr (3, [])), ((ca 3), .inr (4, [])), ((ca 4), .inr (5, [])), ((ca 5), .inr (6, [])), (cc, .inr (8, [.ref ap, .ref cn, .int (zI 0)])), (cn, .inl (dA 1, 24, .inl g)), (ap, .inr (7, [.ref na, .ref ra, .int (zI (((xs.length : Nat) : Int))), .int (zI (((2 : Nat) : Int))), .int (zI (((k : Nat) : Int)))])), (ra, .inr (0, [.ref rb, .int (zI (((bs.length : Nat) : Int))), .int (zI 0)])), (rb, .inl (dA 0, 400, .inl fr))] H locs := hw
  refine lv_aload_n X.x X.b dX1_begin_18 rfl (lv_at hl 0 rfl) ?_
  refine z_get X hw in_X1 0 rfl rfl 0 (by decide) q182 rfl rfl dX1_begin_19 ?_
  refine lv_aload_n X.x X.b dX1_begin_22 rfl (lv_at hl 2 rfl) ?_
  refine z_get X hw in_X11 10 rfl rfl 3 (by decide) q168 rfl rfl dX1_begin_23 ?_
  refine z_aald X hw 1 5 2 rfl rfl (by decide) (by omega) (v := .ref (ca 2)) (congrArg va_rf (hkf 2 (by decide))) dX1_begin_26 ?_
  refine lv_aload_n X.x X.b dX1_begin_27 rfl (lv_at hl 2 rfl) ?_
  refine z_get X hw in_X11 10 rfl rfl 1 (by decide) q163 rfl rfl dX1_begin_28 ?_
  refine lv_aload_n X.x X.b dX1_begin_31 rfl (lv_at hl 1 rfl) ?_
  refine z_get X hw in_X9 8 rfl rfl 1 (by decide) q123 rfl rfl dX1_begin_32 ?_
  refine lv_aload_n X.x X.b dX1_begin_35 rfl (lv_at hl 2 rfl) ?_
  refine z_get X hw in_X11 10 rfl rfl 2 (by decide) q166 rfl rfl dX1_begin_36 ?_
  refine lv_aload_n X.x X.b dX1_begin_39 rfl (lv_at hl 2 rfl) ?_
  refine z_get X hw in_X11 10 rfl rfl 4 (by decide) q170 rfl rfl dX1_begin_40 ?_
  obtain ⟨t_1, ht_1⟩ : ∃ q : Bool, q = ((decP 2 k bs xs.length).isNone) := ⟨_, rfl⟩
  have hff : t_1 = false := by
    have h8 : (dec 2 k bs xs.length).isNone = false := by rw [hde]; rfl
    have h7 : (Option.map (fun q => q.1) (decP 2 k bs xs.length)).isNone = false := h8
    rw [isNone_map] at h7
    rw [ht_1]; exact h7
  refine cx_v5 (c1 := 0) (s1 := 0) X hw [4, 11, 12, 9] [0, 1, 2, 3, 5, 6, 7, 8, 10] (wr := [(h0, .inr (9, [.ref aco, .ref ali, .ref acu, .ref a1, .ref a2, .ref apd, .ref asc, .ref fo, .int (zI (((wn : Nat) : Int))), .int (zI (((bn : Nat) : Int)))])), (aco, .inl (dA 5, 6, .inr (.inr (.inr (.inr kf))))), ((ca 0), .inr (1, [])), ((ca 1), .inr (2, [])), ((ca 3), .inr (4, [])), ((ca 4), .inr (5, [])), ((ca 5), .inr (6, [])), (cc, .inr (8, [.ref ap, .ref cn, .int (zI 0)])), (ap, .inr (7, [.ref na, .ref ra, .int (zI (((xs.length : Nat) : Int))), .int (zI (((2 : Nat) : Int))), .int (zI (((k : Nat) : Int)))]))]) (vx_runF (As := [.ref ra, .ref cn, .int (zI (((xs.length : Nat) : Int))), .int (zI (((k : Nat) : Int)))]) (rest := []) (pc_at X 3 rfl) X.fix (m_dec_2 l hst D dA (ca 2) ra rb cn bs k xs.length fr g hf h4 hk (by omega) t_1 ht_1 _) (va_cwF (x := (mn_ "PostingCodes$Code" "decode" "(LPostingCodes$Row;[SII)V")) (C := RX5) 4 X.t (lw_F q516 q574 q521 q38 q523) rfl rfl rfl (pc_nf X.N 8 rfl) (by decide +kernel) (pc_rmle (by decide) (by decide))) (pc_preV X hw [4, 11, 12, 9] rfl rfl 3 4 rfl rfl rfl) rfl rfl hl.1 rfl (lv_room (Nat.le_of_ble_eq_true rfl)) dX1_begin_43 (pc_c1 (t' := false) (fun h => by rw [hff] at h; cases h))) rfl rfl rfl rfl (fun E ce q9 ux_4 H locs hq hw h1 h2 h3 => ?_) (fun u hq => pc_c0 hq.1) (fun u_3 H locs hq hw => ?_)
  · skip
    exfalso
    have h9 := hq.2
    rw [ht_1] at h9
    have h8 : (dec 2 k bs xs.length).isNone = true := by
      show (Option.map _ _).isNone = true
      rw [isNone_map]; exact h9
    rw [hde] at h8; cases h8
  · skip
    obtain ⟨fd, ad⟩ := u_3
    have hw : pc_S D A s.heap [(h0, .inr (9, [.ref aco, .ref ali, .ref acu, .ref a1, .ref a2, .ref apd, .ref asc, .ref fo, .int (zI (((wn : Nat) : Int))), .int (zI (((bn : Nat) : Int)))])), (aco, .inl (dA 5, 6, .inr (.inr (.inr (.inr kf))))), ((ca 0), .inr (1, [])), ((ca 1), .inr (2, [])), ((ca 3), .inr (4, [])), ((ca 4), .inr (5, [])), ((ca 5), .inr (6, [])), (cc, .inr (8, [.ref ap, .ref cn, .int (zI 0)])), (ap, .inr (7, [.ref na, .ref ra, .int (zI (((xs.length : Nat) : Int))), .int (zI (((2 : Nat) : Int))), .int (zI (((k : Nat) : Int)))])), ((ca 2), .inr (3, [])), (ra, .inr (0, [.ref rb, .int (zI (((bs.length : Nat) : Int))), .int (ad)])), (rb, .inl (dA 0, 400, .inl fr)), (cn, .inl (dA 1, 24, .inl fd))] H locs := hw
    obtain ⟨hq, ys, qq, hd, hfa⟩ := hq
    have hdec : dec 2 k bs xs.length = some ys := by
      show Option.map _ _ = _
      rw [hd]; rfl
    dsimp only at hfa
    have hw : pc_S D A s.heap [(h0, .inr (9, [.ref aco, .ref ali, .ref acu, .ref a1, .ref a2, .ref apd, .ref asc, .ref fo, .int (zI (((wn : Nat) : Int))), .int (zI (((bn : Nat) : Int)))])), (aco, .inl (dA 5, 6, .inr (.inr (.inr (.inr kf))))), ((ca 0), .inr (1, [])), ((ca 1), .inr (2, [])), ((ca 2), .inr (3, [])), ((ca 3), .inr (4, [])), ((ca 4), .inr (5, [])), ((ca 5), .inr (6, [])), (cc, .inr (8, [.ref ap, .ref cn, .int (zI 0)])), (cn, .inl (dA 1, 24, .inl fd)), (ap, .inr (7, [.ref na, .ref ra, .int (zI (((xs.length : Nat) : Int))), .int (zI (((2 : Nat) : Int))), .int (zI (((k : Nat) : Int)))])), (ra, .inr (0, [.ref rb, .int (zI (((bs.length : Nat) : Int))), .int (ad)])), (rb, .inl (dA 0, 400, .inl fr))] H locs := hw.sub [0, 1, 2, 3, 9, 4, 5, 6, 7, 12, 8, 10, 11] rfl rfl
    rw [hdec] at hde
    cases hde
    exact exit (fd, ad) dX1_begin_48 hfa hw (Nat.zero_le _) (Nat.zero_le _)
set_option maxHeartbeats 4000000 in
/-- begin, code 3 -/
theorem m_begin_3 (l : Launch) (hst : l.stackTraces = false) (D : va_G) (dA : Nat → ClassId) (h0 aco ali acu a1 a2 apd asc fo wn bn : Nat) (hwb : wn ≤ 1000 ∧ bn ≤ 1000) (kf : Nat → Option Nat) (ca : Nat → Nat) (hkf : ∀ c, c < 6 → kf c = some (ca c)) (cc cn ap na ra rb : Nat) (lq : Option Nat) (tp ta : Int32) (xs : List Nat) (hv : Valid xs) (g fr : Nat → Int32) (bs : List Bool) (hf : RowIs bs fr) (h4 : bs.length ≤ 400) (k : Nat) (hk : k ≤ 7) (hde : dec 3 k bs xs.length = some xs) : pc_V l yX1_begin cX1_begin 3 (pc_rm 12 0 0) D dA [.ref h0, .ref cc, .ref ap] [(h0, .inr (9, [.ref aco, .ref ali, .ref acu, .ref a1, .ref a2, .ref apd, .ref asc, .ref fo, .int (zI (((wn : Nat) : Int))), .int (zI (((bn : Nat) : Int)))])), (aco, .inl (dA 5, 6, .inr (.inr (.inr (.inr kf))))), ((ca 0), .inr (1, [])), ((ca 1), .inr (2, [])), ((ca 2), .inr (3, [])), ((ca 3), .inr (4, [])), ((ca 4), .inr (5, [])), ((ca 5), .inr (6, [])), (cc, .inr (8, [va_rf lq, .ref cn, .int (tp)])), (cn, .inl (dA 1, 24, .inl g)), (ap, .inr (7, [.ref na, .ref ra, .int (zI (((xs.length : Nat) : Int))), .int (zI (((3 : Nat) : Int))), .int (zI (((k : Nat) : Int)))])), (ra, .inr (0, [.ref rb, .int (zI (((bs.length : Nat) : Int))), .int (ta)])), (rb, .inl (dA 0, 400, .inl fr))] (fun u : (Nat → Int32) × Int32 => ArrIs xs u.1) (fun u : (Nat → Int32) × Int32 => [(h0, .inr (9, [.ref aco, .ref ali, .ref acu, .ref a1, .ref a2, .ref apd, .ref asc, .ref fo, .int (zI (((wn : Nat) : Int))), .int (zI (((bn : Nat) : Int)))])), (aco, .inl (dA 5, 6, .inr (.inr (.inr (.inr kf))))), ((ca 0), .inr (1, [])), ((ca 1), .inr (2, [])), ((ca 2), .inr (3, [])), ((ca 3), .inr (4, [])), ((ca 4), .inr (5, [])), ((ca 5), .inr (6, [])), (cc, .inr (8, [.ref ap, .ref cn, .int (zI 0)])), (cn, .inl (dA 1, 24, .inl u.1)), (ap, .inr (7, [.ref na, .ref ra, .int (zI (((xs.length : Nat) : Int))), .int (zI (((3 : Nat) : Int))), .int (zI (((k : Nat) : Int)))])), (ra, .inr (0, [.ref rb, .int (zI (((bs.length : Nat) : Int))), .int (u.2)])), (rb, .inl (dA 0, 400, .inl fr))]) := by
  refine st_v hst (by decide) RX1 rfl (Nat.le_of_ble_eq_true rfl) ?_
  intro pg ev s mt args below meth cd R A Q hR X hin exit H locs hw ls hl
  subst hR
  have hl : lv_has ls 3 [(0, .ref h0), (1, .ref cc), (2, .ref ap)] := hl
  have hv1 := hv.1
  refine lv_aload_n X.x X.b dX1_begin_0 rfl (lv_at hl 1 rfl) ?_
  refine lv_aload_n X.x X.b dX1_begin_1 rfl (lv_at hl 2 rfl) ?_
  refine z_put X hw in_X9 tyX9 tyX9_ok nmX9 8 rfl rfl 0 (by decide) q121 rfl rfl rfl rfl (Nat.le_of_ble_eq_true rfl) dX1_begin_2 (fun H locs hw => ?_)
  have hw : pc_S D A s.heap [(h0, .inr (9, [.ref aco, .ref ali, .ref acu, .ref a1, .ref a2, .ref apd, .ref asc, .ref fo, .int (zI (((wn : Nat) : Int))), .int (zI (((bn : Nat) : Int)))])), (aco, .inl (dA 5, 6, .inr (.inr (.inr (.inr kf))))), ((ca 0), .inr (1, [])), ((ca 1), .inr (2, [])), ((ca 2), .inr (3, [])), ((ca 3), .inr (4, [])), ((ca 4), .inr (5, [])), ((ca 5), .inr (6, [])), (cc, .inr (8, [.ref ap, .ref cn, .int (tp)])), (cn, .inl (dA 1, 24, .inl g)), (ap, .inr (7, [.ref na, .ref ra, .int (zI (((xs.length : Nat) : Int))), .int (zI (((3 : Nat) : Int))), .int (zI (((k : Nat) : Int)))])), (ra, .inr (0, [.ref rb, .int (zI (((bs.length : Nat) : Int))), .int (ta)])), (rb, .inl (dA 0, 400, .inl fr))] H locs := hw
  refine lv_aload_n X.x X.b dX1_begin_5 rfl (lv_at hl 1 rfl) ?_
  refine z_iconst X dX1_begin_6 ?_
  refine z_put X hw in_X9 tyX9 tyX9_ok nmX9 8 rfl rfl 2 (by decide) q125 rfl rfl rfl rfl (Nat.le_of_ble_eq_true rfl) dX1_begin_7 (fun H locs hw => ?_)
  have hw : pc_S D A s.heap [(h0, .inr (9, [.ref aco, .ref ali, .ref acu, .ref a1, .ref a2, .ref apd, .ref asc, .ref fo, .int (zI (((wn : Nat) : Int))), .int (zI (((bn : Nat) : Int)))])), (aco, .inl (dA 5, 6, .inr (.inr (.inr (.inr kf))))), ((ca 0), .inr (1, [])), ((ca 1), .inr (2, [])), ((ca 2), .inr (3, [])), ((ca 3), .inr (4, [])), ((ca 4), .inr (5, [])), ((ca 5), .inr (6, [])), (cc, .inr (8, [.ref ap, .ref cn, .int (zI 0)])), (cn, .inl (dA 1, 24, .inl g)), (ap, .inr (7, [.ref na, .ref ra, .int (zI (((xs.length : Nat) : Int))), .int (zI (((3 : Nat) : Int))), .int (zI (((k : Nat) : Int)))])), (ra, .inr (0, [.ref rb, .int (zI (((bs.length : Nat) : Int))), .int (ta)])), (rb, .inl (dA 0, 400, .inl fr))] H locs := hw
  refine lv_aload_n X.x X.b dX1_begin_10 rfl (lv_at hl 2 rfl) ?_
  refine z_get X hw in_X11 10 rfl rfl 1 (by decide) q163 rfl rfl dX1_begin_11 ?_
  refine z_iconst X dX1_begin_14 ?_
  refine z_put X hw in_X10 tyX10 tyX10_ok nmX10 11 rfl rfl 2 (by decide) q144 rfl rfl rfl rfl (Nat.le_of_ble_eq_true rfl) dX1_begin_15 (fun H locs hw => ?_)
  have hw : pc_S D A s.heap [(h0, .inr (9, [.ref aco, .ref ali, .ref acu, .ref a1, .ref a2, .ref apd, .ref asc, .ref fo, .int (zI (((wn : Nat) : Int))), .int (zI (((bn : Nat) : Int)))])), (aco, .inl (dA 5, 6, .inr (.inr (.inr (.inr kf))))), ((ca 0), .inr (1, [])), ((ca 1), .inr (2, [])), ((ca 2), .inr (3, [])), ((ca 3), .inr (4, [])), ((ca 4), .inr (5, [])), ((ca 5), .inr (6, [])), (cc, .inr (8, [.ref ap, .ref cn, .int (zI 0)])), (cn, .inl (dA 1, 24, .inl g)), (ap, .inr (7, [.ref na, .ref ra, .int (zI (((xs.length : Nat) : Int))), .int (zI (((3 : Nat) : Int))), .int (zI (((k : Nat) : Int)))])), (ra, .inr (0, [.ref rb, .int (zI (((bs.length : Nat) : Int))), .int (zI 0)])), (rb, .inl (dA 0, 400, .inl fr))] H locs := hw
  refine lv_aload_n X.x X.b dX1_begin_18 rfl (lv_at hl 0 rfl) ?_
  refine z_get X hw in_X1 0 rfl rfl 0 (by decide) q182 rfl rfl dX1_begin_19 ?_
  refine lv_aload_n X.x X.b dX1_begin_22 rfl (lv_at hl 2 rfl) ?_
  refine z_get X hw in_X11 10 rfl rfl 3 (by decide) q168 rfl rfl dX1_begin_23 ?_
  refine z_aald X hw 1 5 3 rfl rfl (by decide) (by omega) (v := .ref (ca 3)) (congrArg va_rf (hkf 3 (by decide))) dX1_begin_26 ?_
  refine lv_aload_n X.x X.b dX1_begin_27 rfl (lv_at hl 2 rfl) ?_
  refine z_get X hw in_X11 10 rfl rfl 1 (by decide) q163 rfl rfl dX1_begin_28 ?_
  refine lv_aload_n X.x X.b dX1_begin_31 rfl (lv_at hl 1 rfl) ?_
  refine z_get X hw in_X9 8 rfl rfl 1 (by decide) q123 rfl rfl dX1_begin_32 ?_
  refine lv_aload_n X.x X.b dX1_begin_35 rfl (lv_at hl 2 rfl) ?_
  refine z_get X hw in_X11 10 rfl rfl 2 (by decide) q166 rfl rfl dX1_begin_36 ?_
  refine lv_aload_n X.x X.b dX1_begin_39 rfl (lv_at hl 2 rfl) ?_
  refine z_get X hw in_X11 10 rfl rfl 4 (by decide) q170 rfl rfl dX1_begin_40 ?_
  obtain ⟨t_1, ht_1⟩ : ∃ q : Bool, q = ((decF bs xs.length).isNone) := ⟨_, rfl⟩
  have hff : t_1 = false := by
    have h8 : (dec 3 k bs xs.length).isNone = false := by rw [hde]; rfl
    have h7 : (Option.map (fun q => q.1) (decF bs xs.length)).isNone = false := h8
    rw [isNone_map] at h7
    rw [ht_1]; exact h7
  refine cx_v5 (c1 := 0) (s1 := 0) X hw [5, 11, 12, 9] [0, 1, 2, 3, 4, 6, 7, 8, 10] (wr := [(h0, .inr (9, [.ref aco, .ref ali, .ref acu, .ref a1, .ref a2, .ref apd, .ref asc, .ref fo, .int (zI (((wn : Nat) : Int))), .int (zI (((bn : Nat) : Int)))])), (aco, .inl (dA 5, 6, .inr (.inr (.inr (.inr kf))))), ((ca 0), .inr (1, [])), ((ca 1), .inr (2, [])), ((ca 2), .inr (3, [])), ((ca 4), .inr (5, [])), ((ca 5), .inr (6, [])), (cc, .inr (8, [.ref ap, .ref cn, .int (zI 0)])), (ap, .inr (7, [.ref na, .ref ra, .int (zI (((xs.length : Nat) : Int))), .int (zI (((3 : Nat) : Int))), .int (zI (((k : Nat) : Int)))]))]) (vx_runF (As := [.ref ra, .ref cn, .int (zI (((xs.length : Nat) : Int))), .int (zI (((k : Nat) : Int)))]) (rest := []) (pc_at X 4 rfl) X.fix (m_dec_3 l hst D dA (ca 3) ra rb cn bs k xs.length fr g hf h4 hk (by omega) t_1 ht_1 _) (va_cwF (x := (mn_ "PostingCodes$Code" "decode" "(LPostingCodes$Row;[SII)V")) (C := RX6) 4 X.t (lw_F q516 q553 q555 q42 q557) rfl rfl rfl (pc_nf X.N 9 rfl) (by decide +kernel) (pc_rmle (by decide) (by decide))) (pc_preV X hw [5, 11, 12, 9] rfl rfl 4 5 rfl rfl rfl) rfl rfl hl.1 rfl (lv_room (Nat.le_of_ble_eq_true rfl)) dX1_begin_43 (pc_c1 (t' := false) (fun h => by rw [hff] at h; cases h))) rfl rfl rfl rfl (fun E ce q9 ux_4 H locs hq hw h1 h2 h3 => ?_) (fun u hq => pc_c0 hq.1) (fun u_3 H locs hq hw => ?_)
  · skip
    exfalso
    have h9 := hq.2
    rw [ht_1] at h9
    have h8 : (dec 3 k bs xs.length).isNone = true := by
      show (Option.map _ _).isNone = true
      rw [isNone_map]; exact h9
    rw [hde] at h8; cases h8
  · skip
    obtain ⟨fd, ad⟩ := u_3
    have hw : pc_S D A s.heap [(h0, .inr (9, [.ref aco, .ref ali, .ref acu, .ref a1, .ref a2, .ref apd, .ref asc, .ref fo, .int (zI (((wn : Nat) : Int))), .int (zI (((bn : Nat) : Int)))])), (aco, .inl (dA 5, 6, .inr (.inr (.inr (.inr kf))))), ((ca 0), .inr (1, [])), ((ca 1), .inr (2, [])), ((ca 2), .inr (3, [])), ((ca 4), .inr (5, [])), ((ca 5), .inr (6, [])), (cc, .inr (8, [.ref ap, .ref cn, .int (zI 0)])), (ap, .inr (7, [.ref na, .ref ra, .int (zI (((xs.length : Nat) : Int))), .int (zI (((3 : Nat) : Int))), .int (zI (((k : Nat) : Int)))])), ((ca 3), .inr (4, [])), (ra, .inr (0, [.ref rb, .int (zI (((bs.length : Nat) : Int))), .int (ad)])), (rb, .inl (dA 0, 400, .inl fr)), (cn, .inl (dA 1, 24, .inl fd))] H locs := hw
    obtain ⟨hq, ys, qq, hd, hfa⟩ := hq
    have hdec : dec 3 k bs xs.length = some ys := by
      show Option.map _ _ = _
      rw [hd]; rfl
    dsimp only at hfa
    have hw : pc_S D A s.heap [(h0, .inr (9, [.ref aco, .ref ali, .ref acu, .ref a1, .ref a2, .ref apd, .ref asc, .ref fo, .int (zI (((wn : Nat) : Int))), .int (zI (((bn : Nat) : Int)))])), (aco, .inl (dA 5, 6, .inr (.inr (.inr (.inr kf))))), ((ca 0), .inr (1, [])), ((ca 1), .inr (2, [])), ((ca 2), .inr (3, [])), ((ca 3), .inr (4, [])), ((ca 4), .inr (5, [])), ((ca 5), .inr (6, [])), (cc, .inr (8, [.ref ap, .ref cn, .int (zI 0)])), (cn, .inl (dA 1, 24, .inl fd)), (ap, .inr (7, [.ref na, .ref ra, .int (zI (((xs.length : Nat) : Int))), .int (zI (((3 : Nat) : Int))), .int (zI (((k : Nat) : Int)))])), (ra, .inr (0, [.ref rb, .int (zI (((bs.length : Nat) : Int))), .int (ad)])), (rb, .inl (dA 0, 400, .inl fr))] H locs := hw.sub [0, 1, 2, 3, 4, 9, 5, 6, 7, 12, 8, 10, 11] rfl rfl
    rw [hdec] at hde
    cases hde
    exact exit (fd, ad) dX1_begin_48 hfa hw (Nat.zero_le _) (Nat.zero_le _)
set_option maxHeartbeats 4000000 in
/-- begin, code 4 -/
theorem m_begin_4 (l : Launch) (hst : l.stackTraces = false) (D : va_G) (dA : Nat → ClassId) (h0 aco ali acu a1 a2 apd asc fo wn bn : Nat) (hwb : wn ≤ 1000 ∧ bn ≤ 1000) (kf : Nat → Option Nat) (ca : Nat → Nat) (hkf : ∀ c, c < 6 → kf c = some (ca c)) (cc cn ap na ra rb : Nat) (lq : Option Nat) (tp ta : Int32) (xs : List Nat) (hv : Valid xs) (g fr : Nat → Int32) (bs : List Bool) (hf : RowIs bs fr) (h4 : bs.length ≤ 400) (k : Nat) (hk : k ≤ 7) (hde : dec 4 k bs xs.length = some xs) : pc_V l yX1_begin cX1_begin 3 (pc_rm 12 0 0) D dA [.ref h0, .ref cc, .ref ap] [(h0, .inr (9, [.ref aco, .ref ali, .ref acu, .ref a1, .ref a2, .ref apd, .ref asc, .ref fo, .int (zI (((wn : Nat) : Int))), .int (zI (((bn : Nat) : Int)))])), (aco, .inl (dA 5, 6, .inr (.inr (.inr (.inr kf))))), ((ca 0), .inr (1, [])), ((ca 1), .inr (2, [])), ((ca 2), .inr (3, [])), ((ca 3), .inr (4, [])), ((ca 4), .inr (5, [])), ((ca 5), .inr (6, [])), (cc, .inr (8, [va_rf lq, .ref cn, .int (tp)])), (cn, .inl (dA 1, 24, .inl g)), (ap, .inr (7, [.ref na, .ref ra, .int (zI (((xs.length : Nat) : Int))), .int (zI (((4 : Nat) : Int))), .int (zI (((k : Nat) : Int)))])), (ra, .inr (0, [.ref rb, .int (zI (((bs.length : Nat) : Int))), .int (ta)])), (rb, .inl (dA 0, 400, .inl fr))] (fun u : (Nat → Int32) × Int32 => ArrIs xs u.1) (fun u : (Nat → Int32) × Int32 => [(h0, .inr (9, [.ref aco, .ref ali, .ref acu, .ref a1, .ref a2, .ref apd, .ref asc, .ref fo, .int (zI (((wn : Nat) : Int))), .int (zI (((bn : Nat) : Int)))])), (aco, .inl (dA 5, 6, .inr (.inr (.inr (.inr kf))))), ((ca 0), .inr (1, [])), ((ca 1), .inr (2, [])), ((ca 2), .inr (3, [])), ((ca 3), .inr (4, [])), ((ca 4), .inr (5, [])), ((ca 5), .inr (6, [])), (cc, .inr (8, [.ref ap, .ref cn, .int (zI 0)])), (cn, .inl (dA 1, 24, .inl u.1)), (ap, .inr (7, [.ref na, .ref ra, .int (zI (((xs.length : Nat) : Int))), .int (zI (((4 : Nat) : Int))), .int (zI (((k : Nat) : Int)))])), (ra, .inr (0, [.ref rb, .int (zI (((bs.length : Nat) : Int))), .int (u.2)])), (rb, .inl (dA 0, 400, .inl fr))]) := by
  refine st_v hst (by decide) RX1 rfl (Nat.le_of_ble_eq_true rfl) ?_
  intro pg ev s mt args below meth cd R A Q hR X hin exit H locs hw ls hl
  subst hR
  have hl : lv_has ls 3 [(0, .ref h0), (1, .ref cc), (2, .ref ap)] := hl
  have hv1 := hv.1
  refine lv_aload_n X.x X.b dX1_begin_0 rfl (lv_at hl 1 rfl) ?_
  refine lv_aload_n X.x X.b dX1_begin_1 rfl (lv_at hl 2 rfl) ?_
  refine z_put X hw in_X9 tyX9 tyX9_ok nmX9 8 rfl rfl 0 (by decide) q121 rfl rfl rfl rfl (Nat.le_of_ble_eq_true rfl) dX1_begin_2 (fun H locs hw => ?_)
  have hw : pc_S D A s.heap [(h0, .inr (9, [.ref aco, .ref ali, .ref acu, .ref a1, .ref a2, .ref apd, .ref asc, .ref fo, .int (zI (((wn : Nat) : Int))), .int (zI (((bn : Nat) : Int)))])), (aco, .inl (dA 5, 6, .inr (.inr (.inr (.inr kf))))), ((ca 0), .inr (1, [])), ((ca 1), .inr (2, [])), ((ca 2), .inr (3, [])), ((ca 3), .inr (4, [])), ((ca 4), .inr (5, [])), ((ca 5), .inr (6, [])), (cc, .inr (8, [.ref ap, .ref cn, .int (tp)])), (cn, .inl (dA 1, 24, .inl g)), (ap, .inr (7, [.ref na, .ref ra, .int (zI (((xs.length : Nat) : Int))), .int (zI (((4 : Nat) : Int))), .int (zI (((k : Nat) : Int)))])), (ra, .inr (0, [.ref rb, .int (zI (((bs.length : Nat) : Int))), .int (ta)])), (rb, .inl (dA 0, 400, .inl fr))] H locs := hw
  refine lv_aload_n X.x X.b dX1_begin_5 rfl (lv_at hl 1 rfl) ?_
  refine z_iconst X dX1_begin_6 ?_
  refine z_put X hw in_X9 tyX9 tyX9_ok nmX9 8 rfl rfl 2 (by decide) q125 rfl rfl rfl rfl (Nat.le_of_ble_eq_true rfl) dX1_begin_7 (fun H locs hw => ?_)
  have hw : pc_S D A s.heap [(h0, .inr (9, [.ref aco, .ref ali, .ref acu, .ref a1, .ref a2, .ref apd, .ref asc, .ref fo, .int (zI (((wn : Nat) : Int))), .int (zI (((bn : Nat) : Int)))])), (aco, .inl (dA 5, 6, .inr (.inr (.inr (.inr kf))))), ((ca 0), .inr (1, [])), ((ca 1), .inr (2, [])), ((ca 2), .inr (3, [])), ((ca 3), .inr (4, [])), ((ca 4), .inr (5, [])), ((ca 5), .inr (6, [])), (cc, .inr (8, [.ref ap, .ref cn, .int (zI 0)])), (cn, .inl (dA 1, 24, .inl g)), (ap, .inr (7, [.ref na, .ref ra, .int (zI (((xs.length : Nat) : Int))), .int (zI (((4 : Nat) : Int))), .int (zI (((k : Nat) : Int)))])), (ra, .inr (0, [.ref rb, .int (zI (((bs.length : Nat) : Int))), .int (ta)])), (rb, .inl (dA 0, 400, .inl fr))] H locs := hw
  refine lv_aload_n X.x X.b dX1_begin_10 rfl (lv_at hl 2 rfl) ?_
  refine z_get X hw in_X11 10 rfl rfl 1 (by decide) q163 rfl rfl dX1_begin_11 ?_
  refine z_iconst X dX1_begin_14 ?_
  refine z_put X hw in_X10 tyX10 tyX10_ok nmX10 11 rfl rfl 2 (by decide) q144 rfl rfl rfl rfl (Nat.le_of_ble_eq_true rfl) dX1_begin_15 (fun H locs hw => ?_)
  have hw : pc_S D A s.heap [(h0, .inr (9, [.ref aco, .ref ali, .ref acu, .ref a1, .ref a2, .ref apd, .ref asc, .ref fo, .int (zI (((wn : Nat) : Int))), .int (zI (((bn : Nat) : Int)))])), (aco, .inl (dA 5, 6, .inr (.inr (.inr (.inr kf))))), ((ca 0), .inr (1, [])), ((ca 1), .inr (2, [])), ((ca 2), .inr (3, [])), ((ca 3), .inr (4, [])), ((ca 4), .inr (5, [])), ((ca 5), .inr (6, [])), (cc, .inr (8, [.ref ap, .ref cn, .int (zI 0)])), (cn, .inl (dA 1, 24, .inl g)), (ap, .inr (7, [.ref na, .ref ra, .int (zI (((xs.length : Nat) : Int))), .int (zI (((4 : Nat) : Int))), .int (zI (((k : Nat) : Int)))])), (ra, .inr (0, [.ref rb, .int (zI (((bs.length : Nat) : Int))), .int (zI 0)])), (rb, .inl (dA 0, 400, .inl fr))] H locs := hw
  refine lv_aload_n X.x X.b dX1_begin_18 rfl (lv_at hl 0 rfl) ?_
  refine z_get X hw in_X1 0 rfl rfl 0 (by decide) q182 rfl rfl dX1_begin_19 ?_
  refine lv_aload_n X.x X.b dX1_begin_22 rfl (lv_at hl 2 rfl) ?_
  refine z_get X hw in_X11 10 rfl rfl 3 (by decide) q168 rfl rfl dX1_begin_23 ?_
  refine z_aald X hw 1 5 4 rfl rfl (by decide) (by omega) (v := .ref (ca 4)) (congrArg va_rf (hkf 4 (by decide))) dX1_begin_26 ?_
  refine lv_aload_n X.x X.b dX1_begin_27 rfl (lv_at hl 2 rfl) ?_
  refine z_get X hw in_X11 10 rfl rfl 1 (by decide) q163 rfl rfl dX1_begin_28 ?_
  refine lv_aload_n X.x X.b dX1_begin_31 rfl (lv_at hl 1 rfl) ?_
  refine z_get X hw in_X9 8 rfl rfl 1 (by decide) q123 rfl rfl dX1_begin_32 ?_
  refine lv_aload_n X.x X.b dX1_begin_35 rfl (lv_at hl 2 rfl) ?_
  refine z_get X hw in_X11 10 rfl rfl 2 (by decide) q166 rfl rfl dX1_begin_36 ?_
  refine lv_aload_n X.x X.b dX1_begin_39 rfl (lv_at hl 2 rfl) ?_
  refine z_get X hw in_X11 10 rfl rfl 4 (by decide) q170 rfl rfl dX1_begin_40 ?_
  obtain ⟨t_1, ht_1⟩ : ∃ q : Bool, q = ((decS bs xs.length xs.length).isNone) := ⟨_, rfl⟩
  have hff : t_1 = false := by
    have h8 : (dec 4 k bs xs.length).isNone = false := by rw [hde]; rfl
    have h7 : (Option.map (fun q => q.1) (decS bs xs.length xs.length)).isNone = false := h8
    rw [isNone_map] at h7
    rw [ht_1]; exact h7
  refine cx_v5 (c1 := 0) (s1 := 0) X hw [6, 11, 12, 9] [0, 1, 2, 3, 4, 5, 7, 8, 10] (wr := [(h0, .inr (9, [.ref aco, .ref ali, .ref acu, .ref a1, .ref a2, .ref apd, .ref asc, .ref fo, .int (zI (((wn : Nat) : Int))), .int (zI (((bn : Nat) : Int)))])), (aco, .inl (dA 5, 6, .inr (.inr (.inr (.inr kf))))), ((ca 0), .inr (1, [])), ((ca 1), .inr (2, [])), ((ca 2), .inr (3, [])), ((ca 3), .inr (4, [])), ((ca 5), .inr (6, [])), (cc, .inr (8, [.ref ap, .ref cn, .int (zI 0)])), (ap, .inr (7, [.ref na, .ref ra, .int (zI (((xs.length : Nat) : Int))), .int (zI (((4 : Nat) : Int))), .int (zI (((k : Nat) : Int)))]))]) (vx_runF (As := [.ref ra, .ref cn, .int (zI (((xs.length : Nat) : Int))), .int (zI (((k : Nat) : Int)))]) (rest := []) (pc_at X 5 rfl) X.fix (m_dec_4 l hst D dA (ca 4) ra rb cn bs k xs.length fr g hf h4 hk (by omega) t_1 ht_1 _) (va_cwF (x := (mn_ "PostingCodes$Code" "decode" "(LPostingCodes$Row;[SII)V")) (C := RX7) 4 X.t (lw_F q516 q576 q578 q43 q580) rfl rfl rfl (pc_nf X.N 10 rfl) (by decide +kernel) (pc_rmle (by decide) (by decide))) (pc_preV X hw [6, 11, 12, 9] rfl rfl 5 6 rfl rfl rfl) rfl rfl hl.1 rfl (lv_room (Nat.le_of_ble_eq_true rfl)) dX1_begin_43 (pc_c1 (t' := false) (fun h => by rw [hff] at h; cases h))) rfl rfl rfl rfl (fun E ce q9 ux_4 H locs hq hw h1 h2 h3 => ?_) (fun u hq => pc_c0 hq.1) (fun u_3 H locs hq hw => ?_)
  · skip
    exfalso
    have h9 := hq.2
    rw [ht_1] at h9
    have h8 : (dec 4 k bs xs.length).isNone = true := by
      show (Option.map _ _).isNone = true
      rw [isNone_map]; exact h9
    rw [hde] at h8; cases h8
  · skip
    obtain ⟨fd, ad⟩ := u_3
    have hw : pc_S D A s.heap [(h0, .inr (9, [.ref aco, .ref ali, .ref acu, .ref a1, .ref a2, .ref apd, .ref asc, .ref fo, .int (zI (((wn : Nat) : Int))), .int (zI (((bn : Nat) : Int)))])), (aco, .inl (dA 5, 6, .inr (.inr (.inr (.inr kf))))), ((ca 0), .inr (1, [])), ((ca 1), .inr (2, [])), ((ca 2), .inr (3, [])), ((ca 3), .inr (4, [])), ((ca 5), .inr (6, [])), (cc, .inr (8, [.ref ap, .ref cn, .int (zI 0)])), (ap, .inr (7, [.ref na, .ref ra, .int (zI (((xs.length : Nat) : Int))), .int (zI (((4 : Nat) : Int))), .int (zI (((k : Nat) : Int)))])), ((ca 4), .inr (5, [])), (ra, .inr (0, [.ref rb, .int (zI (((bs.length : Nat) : Int))), .int (ad)])), (rb, .inl (dA 0, 400, .inl fr)), (cn, .inl (dA 1, 24, .inl fd))] H locs := hw
    obtain ⟨hq, ys, qq, hd, hfa⟩ := hq
    have hdec : dec 4 k bs xs.length = some ys := by
      show Option.map _ _ = _
      rw [hd]; rfl
    dsimp only at hfa
    have hw : pc_S D A s.heap [(h0, .inr (9, [.ref aco, .ref ali, .ref acu, .ref a1, .ref a2, .ref apd, .ref asc, .ref fo, .int (zI (((wn : Nat) : Int))), .int (zI (((bn : Nat) : Int)))])), (aco, .inl (dA 5, 6, .inr (.inr (.inr (.inr kf))))), ((ca 0), .inr (1, [])), ((ca 1), .inr (2, [])), ((ca 2), .inr (3, [])), ((ca 3), .inr (4, [])), ((ca 4), .inr (5, [])), ((ca 5), .inr (6, [])), (cc, .inr (8, [.ref ap, .ref cn, .int (zI 0)])), (cn, .inl (dA 1, 24, .inl fd)), (ap, .inr (7, [.ref na, .ref ra, .int (zI (((xs.length : Nat) : Int))), .int (zI (((4 : Nat) : Int))), .int (zI (((k : Nat) : Int)))])), (ra, .inr (0, [.ref rb, .int (zI (((bs.length : Nat) : Int))), .int (ad)])), (rb, .inl (dA 0, 400, .inl fr))] H locs := hw.sub [0, 1, 2, 3, 4, 5, 9, 6, 7, 12, 8, 10, 11] rfl rfl
    rw [hdec] at hde
    cases hde
    exact exit (fd, ad) dX1_begin_48 hfa hw (Nat.zero_le _) (Nat.zero_le _)
set_option maxHeartbeats 4000000 in
/-- begin, code 5 -/
theorem m_begin_5 (l : Launch) (hst : l.stackTraces = false) (D : va_G) (dA : Nat → ClassId) (h0 aco ali acu a1 a2 apd asc fo wn bn : Nat) (hwb : wn ≤ 1000 ∧ bn ≤ 1000) (kf : Nat → Option Nat) (ca : Nat → Nat) (hkf : ∀ c, c < 6 → kf c = some (ca c)) (cc cn ap na ra rb : Nat) (lq : Option Nat) (tp ta : Int32) (xs : List Nat) (hv : Valid xs) (g fr : Nat → Int32) (bs : List Bool) (hf : RowIs bs fr) (h4 : bs.length ≤ 400) (k : Nat) (hk : k ≤ 7) (hde : dec 5 k bs xs.length = some xs) : pc_V l yX1_begin cX1_begin 3 (pc_rm 12 0 0) D dA [.ref h0, .ref cc, .ref ap] [(h0, .inr (9, [.ref aco, .ref ali, .ref acu, .ref a1, .ref a2, .ref apd, .ref asc, .ref fo, .int (zI (((wn : Nat) : Int))), .int (zI (((bn : Nat) : Int)))])), (aco, .inl (dA 5, 6, .inr (.inr (.inr (.inr kf))))), ((ca 0), .inr (1, [])), ((ca 1), .inr (2, [])), ((ca 2), .inr (3, [])), ((ca 3), .inr (4, [])), ((ca 4), .inr (5, [])), ((ca 5), .inr (6, [])), (cc, .inr (8, [va_rf lq, .ref cn, .int (tp)])), (cn, .inl (dA 1, 24, .inl g)), (ap, .inr (7, [.ref na, .ref ra, .int (zI (((xs.length : Nat) : Int))), .int (zI (((5 : Nat) : Int))), .int (zI (((k : Nat) : Int)))])), (ra, .inr (0, [.ref rb, .int (zI (((bs.length : Nat) : Int))), .int (ta)])), (rb, .inl (dA 0, 400, .inl fr))] (fun u : (Nat → Int32) × Int32 => ArrIs xs u.1) (fun u : (Nat → Int32) × Int32 => [(h0, .inr (9, [.ref aco, .ref ali, .ref acu, .ref a1, .ref a2, .ref apd, .ref asc, .ref fo, .int (zI (((wn : Nat) : Int))), .int (zI (((bn : Nat) : Int)))])), (aco, .inl (dA 5, 6, .inr (.inr (.inr (.inr kf))))), ((ca 0), .inr (1, [])), ((ca 1), .inr (2, [])), ((ca 2), .inr (3, [])), ((ca 3), .inr (4, [])), ((ca 4), .inr (5, [])), ((ca 5), .inr (6, [])), (cc, .inr (8, [.ref ap, .ref cn, .int (zI 0)])), (cn, .inl (dA 1, 24, .inl u.1)), (ap, .inr (7, [.ref na, .ref ra, .int (zI (((xs.length : Nat) : Int))), .int (zI (((5 : Nat) : Int))), .int (zI (((k : Nat) : Int)))])), (ra, .inr (0, [.ref rb, .int (zI (((bs.length : Nat) : Int))), .int (u.2)])), (rb, .inl (dA 0, 400, .inl fr))]) := by
  refine st_v hst (by decide) RX1 rfl (Nat.le_of_ble_eq_true rfl) ?_
  intro pg ev s mt args below meth cd R A Q hR X hin exit H locs hw ls hl
  subst hR
  have hl : lv_has ls 3 [(0, .ref h0), (1, .ref cc), (2, .ref ap)] := hl
  have hv1 := hv.1
  refine lv_aload_n X.x X.b dX1_begin_0 rfl (lv_at hl 1 rfl) ?_
  refine lv_aload_n X.x X.b dX1_begin_1 rfl (lv_at hl 2 rfl) ?_
  refine z_put X hw in_X9 tyX9 tyX9_ok nmX9 8 rfl rfl 0 (by decide) q121 rfl rfl rfl rfl (Nat.le_of_ble_eq_true rfl) dX1_begin_2 (fun H locs hw => ?_)
  have hw : pc_S D A s.heap [(h0, .inr (9, [.ref aco, .ref ali, .ref acu, .ref a1, .ref a2, .ref apd, .ref asc, .ref fo, .int (zI (((wn : Nat) : Int))), .int (zI (((bn : Nat) : Int)))])), (aco, .inl (dA 5, 6, .inr (.inr (.inr (.inr kf))))), ((ca 0), .inr (1, [])), ((ca 1), .inr (2, [])), ((ca 2), .inr (3, [])), ((ca 3), .inr (4, [])), ((ca 4), .inr (5, [])), ((ca 5), .inr (6, [])), (cc, .inr (8, [.ref ap, .ref cn, .int (tp)])), (cn, .inl (dA 1, 24, .inl g)), (ap, .inr (7, [.ref na, .ref ra, .int (zI (((xs.length : Nat) : Int))), .int (zI (((5 : Nat) : Int))), .int (zI (((k : Nat) : Int)))])), (ra, .inr (0, [.ref rb, .int (zI (((bs.length : Nat) : Int))), .int (ta)])), (rb, .inl (dA 0, 400, .inl fr))] H locs := hw
  refine lv_aload_n X.x X.b dX1_begin_5 rfl (lv_at hl 1 rfl) ?_
  refine z_iconst X dX1_begin_6 ?_
  refine z_put X hw in_X9 tyX9 tyX9_ok nmX9 8 rfl rfl 2 (by decide) q125 rfl rfl rfl rfl (Nat.le_of_ble_eq_true rfl) dX1_begin_7 (fun H locs hw => ?_)
  have hw : pc_S D A s.heap [(h0, .inr (9, [.ref aco, .ref ali, .ref acu, .ref a1, .ref a2, .ref apd, .ref asc, .ref fo, .int (zI (((wn : Nat) : Int))), .int (zI (((bn : Nat) : Int)))])), (aco, .inl (dA 5, 6, .inr (.inr (.inr (.inr kf))))), ((ca 0), .inr (1, [])), ((ca 1), .inr (2, [])), ((ca 2), .inr (3, [])), ((ca 3), .inr (4, [])), ((ca 4), .inr (5, [])), ((ca 5), .inr (6, [])), (cc, .inr (8, [.ref ap, .ref cn, .int (zI 0)])), (cn, .inl (dA 1, 24, .inl g)), (ap, .inr (7, [.ref na, .ref ra, .int (zI (((xs.length : Nat) : Int))), .int (zI (((5 : Nat) : Int))), .int (zI (((k : Nat) : Int)))])), (ra, .inr (0, [.ref rb, .int (zI (((bs.length : Nat) : Int))), .int (ta)])), (rb, .inl (dA 0, 400, .inl fr))] H locs := hw
  refine lv_aload_n X.x X.b dX1_begin_10 rfl (lv_at hl 2 rfl) ?_
  refine z_get X hw in_X11 10 rfl rfl 1 (by decide) q163 rfl rfl dX1_begin_11 ?_
  refine z_iconst X dX1_begin_14 ?_
  refine z_put X hw in_X10 tyX10 tyX10_ok nmX10 11 rfl rfl 2 (by decide) q144 rfl rfl rfl rfl (Nat.le_of_ble_eq_true rfl) dX1_begin_15 (fun H locs hw => ?_)
  have hw : pc_S D A s.heap [(h0, .inr (9, [.ref aco, .ref ali, .ref acu, .ref a1, .ref a2, .ref apd, .ref asc, .ref fo, .int (zI (((wn : Nat) : Int))), .int (zI (((bn : Nat) : Int)))])), (aco, .inl (dA 5, 6, .inr (.inr (.inr (.inr kf))))), ((ca 0), .inr (1, [])), ((ca 1), .inr (2, [])), ((ca 2), .inr (3, [])), ((ca 3), .inr (4, [])), ((ca 4), .inr (5, [])), ((ca 5), .inr (6, [])), (cc, .inr (8, [.ref ap, .ref cn, .int (zI 0)])), (cn, .inl (dA 1, 24, .inl g)), (ap, .inr (7, [.ref na, .ref ra, .int (zI (((xs.length : Nat) : Int))), .int (zI (((5 : Nat) : Int))), .int (zI (((k : Nat) : Int)))])), (ra, .inr (0, [.ref rb, .int (zI (((bs.length : Nat) : Int))), .int (zI 0)])), (rb, .inl (dA 0, 400, .inl fr))] H locs := hw
  refine lv_aload_n X.x X.b dX1_begin_18 rfl (lv_at hl 0 rfl) ?_
  refine z_get X hw in_X1 0 rfl rfl 0 (by decide) q182 rfl rfl dX1_begin_19 ?_
  refine lv_aload_n X.x X.b dX1_begin_22 rfl (lv_at hl 2 rfl) ?_
  refine z_get X hw in_X11 10 rfl rfl 3 (by decide) q168 rfl rfl dX1_begin_23 ?_
  refine z_aald X hw 1 5 5 rfl rfl (by decide) (by omega) (v := .ref (ca 5)) (congrArg va_rf (hkf 5 (by decide))) dX1_begin_26 ?_
  refine lv_aload_n X.x X.b dX1_begin_27 rfl (lv_at hl 2 rfl) ?_
  refine z_get X hw in_X11 10 rfl rfl 1 (by decide) q163 rfl rfl dX1_begin_28 ?_
  refine lv_aload_n X.x X.b dX1_begin_31 rfl (lv_at hl 1 rfl) ?_
  refine z_get X hw in_X9 8 rfl rfl 1 (by decide) q123 rfl rfl dX1_begin_32 ?_
  refine lv_aload_n X.x X.b dX1_begin_35 rfl (lv_at hl 2 rfl) ?_
  refine z_get X hw in_X11 10 rfl rfl 2 (by decide) q166 rfl rfl dX1_begin_36 ?_
  refine lv_aload_n X.x X.b dX1_begin_39 rfl (lv_at hl 2 rfl) ?_
  refine z_get X hw in_X11 10 rfl rfl 4 (by decide) q170 rfl rfl dX1_begin_40 ?_
  obtain ⟨t_1, ht_1⟩ : ∃ q : Bool, q = ((decM bs 5 xs.length 0 4096 0).isNone) := ⟨_, rfl⟩
  have hff : t_1 = false := by
    have h8 : (dec 5 k bs xs.length).isNone = false := by rw [hde]; rfl
    have h7 : (Option.map (fun q => q.1) (decM bs 5 xs.length 0 4096 0)).isNone = false := h8
    rw [isNone_map] at h7
    rw [ht_1]; exact h7
  refine cx_v5 (c1 := 0) (s1 := 0) X hw [7, 11, 12, 9] [0, 1, 2, 3, 4, 5, 6, 8, 10] (wr := [(h0, .inr (9, [.ref aco, .ref ali, .ref acu, .ref a1, .ref a2, .ref apd, .ref asc, .ref fo, .int (zI (((wn : Nat) : Int))), .int (zI (((bn : Nat) : Int)))])), (aco, .inl (dA 5, 6, .inr (.inr (.inr (.inr kf))))), ((ca 0), .inr (1, [])), ((ca 1), .inr (2, [])), ((ca 2), .inr (3, [])), ((ca 3), .inr (4, [])), ((ca 4), .inr (5, [])), (cc, .inr (8, [.ref ap, .ref cn, .int (zI 0)])), (ap, .inr (7, [.ref na, .ref ra, .int (zI (((xs.length : Nat) : Int))), .int (zI (((5 : Nat) : Int))), .int (zI (((k : Nat) : Int)))]))]) (vx_runF (As := [.ref ra, .ref cn, .int (zI (((xs.length : Nat) : Int))), .int (zI (((k : Nat) : Int)))]) (rest := []) (pc_at X 6 rfl) X.fix (m_dec_5 l hst D dA (ca 5) ra rb cn bs k xs.length fr g hf h4 hk (by omega) t_1 ht_1 _) (va_cwF (x := (mn_ "PostingCodes$Code" "decode" "(LPostingCodes$Row;[SII)V")) (C := RX8) 4 X.t (lw_F q516 q562 q564 q44 q566) rfl rfl rfl (pc_nf X.N 11 rfl) (by decide +kernel) (pc_rmle (by decide) (by decide))) (pc_preV X hw [7, 11, 12, 9] rfl rfl 6 7 rfl rfl rfl) rfl rfl hl.1 rfl (lv_room (Nat.le_of_ble_eq_true rfl)) dX1_begin_43 (pc_c1 (t' := false) (fun h => by rw [hff] at h; cases h))) rfl rfl rfl rfl (fun E ce q9 ux_4 H locs hq hw h1 h2 h3 => ?_) (fun u hq => pc_c0 hq.1) (fun u_3 H locs hq hw => ?_)
  · skip
    exfalso
    have h9 := hq.2
    rw [ht_1] at h9
    have h8 : (dec 5 k bs xs.length).isNone = true := by
      show (Option.map _ _).isNone = true
      rw [isNone_map]; exact h9
    rw [hde] at h8; cases h8
  · skip
    obtain ⟨fd, ad⟩ := u_3
    have hw : pc_S D A s.heap [(h0, .inr (9, [.ref aco, .ref ali, .ref acu, .ref a1, .ref a2, .ref apd, .ref asc, .ref fo, .int (zI (((wn : Nat) : Int))), .int (zI (((bn : Nat) : Int)))])), (aco, .inl (dA 5, 6, .inr (.inr (.inr (.inr kf))))), ((ca 0), .inr (1, [])), ((ca 1), .inr (2, [])), ((ca 2), .inr (3, [])), ((ca 3), .inr (4, [])), ((ca 4), .inr (5, [])), (cc, .inr (8, [.ref ap, .ref cn, .int (zI 0)])), (ap, .inr (7, [.ref na, .ref ra, .int (zI (((xs.length : Nat) : Int))), .int (zI (((5 : Nat) : Int))), .int (zI (((k : Nat) : Int)))])), ((ca 5), .inr (6, [])), (ra, .inr (0, [.ref rb, .int (zI (((bs.length : Nat) : Int))), .int (ad)])), (rb, .inl (dA 0, 400, .inl fr)), (cn, .inl (dA 1, 24, .inl fd))] H locs := hw
    obtain ⟨hq, ys, qq, hd, hfa⟩ := hq
    have hdec : dec 5 k bs xs.length = some ys := by
      show Option.map _ _ = _
      rw [hd]; rfl
    dsimp only at hfa
    have hw : pc_S D A s.heap [(h0, .inr (9, [.ref aco, .ref ali, .ref acu, .ref a1, .ref a2, .ref apd, .ref asc, .ref fo, .int (zI (((wn : Nat) : Int))), .int (zI (((bn : Nat) : Int)))])), (aco, .inl (dA 5, 6, .inr (.inr (.inr (.inr kf))))), ((ca 0), .inr (1, [])), ((ca 1), .inr (2, [])), ((ca 2), .inr (3, [])), ((ca 3), .inr (4, [])), ((ca 4), .inr (5, [])), ((ca 5), .inr (6, [])), (cc, .inr (8, [.ref ap, .ref cn, .int (zI 0)])), (cn, .inl (dA 1, 24, .inl fd)), (ap, .inr (7, [.ref na, .ref ra, .int (zI (((xs.length : Nat) : Int))), .int (zI (((5 : Nat) : Int))), .int (zI (((k : Nat) : Int)))])), (ra, .inr (0, [.ref rb, .int (zI (((bs.length : Nat) : Int))), .int (ad)])), (rb, .inl (dA 0, 400, .inl fr))] H locs := hw.sub [0, 1, 2, 3, 4, 5, 6, 9, 7, 12, 8, 10, 11] rfl rfl
    rw [hdec] at hde
    cases hde
    exact exit (fd, ad) dX1_begin_48 hfa hw (Nat.zero_le _) (Nat.zero_le _)
theorem m_begin (l : Launch) (hst : l.stackTraces = false) (D : va_G) (dA : Nat → ClassId) (h0 aco ali acu a1 a2 apd asc fo wn bn : Nat) (hwb : wn ≤ 1000 ∧ bn ≤ 1000) (kf : Nat → Option Nat) (ca : Nat → Nat) (hkf : ∀ c, c < 6 → kf c = some (ca c)) (cc cn ap na ra rb : Nat) (lq : Option Nat) (tp ta : Int32) (xs : List Nat) (hv : Valid xs) (g fr : Nat → Int32) (bs : List Bool) (hf : RowIs bs fr) (h4 : bs.length ≤ 400) (k : Nat) (hk : k ≤ 7) (c : Nat) (hc : c < 6) (hde : dec c k bs xs.length = some xs) : pc_V l yX1_begin cX1_begin 3 (pc_rm 12 0 0) D dA [.ref h0, .ref cc, .ref ap] [(h0, .inr (9, [.ref aco, .ref ali, .ref acu, .ref a1, .ref a2, .ref apd, .ref asc, .ref fo, .int (zI (((wn : Nat) : Int))), .int (zI (((bn : Nat) : Int)))])), (aco, .inl (dA 5, 6, .inr (.inr (.inr (.inr kf))))), ((ca 0), .inr (1, [])), ((ca 1), .inr (2, [])), ((ca 2), .inr (3, [])), ((ca 3), .inr (4, [])), ((ca 4), .inr (5, [])), ((ca 5), .inr (6, [])), (cc, .inr (8, [va_rf lq, .ref cn, .int (tp)])), (cn, .inl (dA 1, 24, .inl g)), (ap, .inr (7, [.ref na, .ref ra, .int (zI (((xs.length : Nat) : Int))), .int (zI (((c : Nat) : Int))), .int (zI (((k : Nat) : Int)))])), (ra, .inr (0, [.ref rb, .int (zI (((bs.length : Nat) : Int))), .int (ta)])), (rb, .inl (dA 0, 400, .inl fr))] (fun u : (Nat → Int32) × Int32 => ArrIs xs u.1) (fun u : (Nat → Int32) × Int32 => [(h0, .inr (9, [.ref aco, .ref ali, .ref acu, .ref a1, .ref a2, .ref apd, .ref asc, .ref fo, .int (zI (((wn : Nat) : Int))), .int (zI (((bn : Nat) : Int)))])), (aco, .inl (dA 5, 6, .inr (.inr (.inr (.inr kf))))), ((ca 0), .inr (1, [])), ((ca 1), .inr (2, [])), ((ca 2), .inr (3, [])), ((ca 3), .inr (4, [])), ((ca 4), .inr (5, [])), ((ca 5), .inr (6, [])), (cc, .inr (8, [.ref ap, .ref cn, .int (zI 0)])), (cn, .inl (dA 1, 24, .inl u.1)), (ap, .inr (7, [.ref na, .ref ra, .int (zI (((xs.length : Nat) : Int))), .int (zI (((c : Nat) : Int))), .int (zI (((k : Nat) : Int)))])), (ra, .inr (0, [.ref rb, .int (zI (((bs.length : Nat) : Int))), .int (u.2)])), (rb, .inl (dA 0, 400, .inl fr))]) := by
  rcases (show c = 0 ∨ c = 1 ∨ c = 2 ∨ c = 3 ∨ c = 4 ∨ c = 5 by omega) with rfl | rfl | rfl | rfl | rfl | rfl
  · exact m_begin_0 l hst D dA h0 aco ali acu a1 a2 apd asc fo wn bn hwb kf ca hkf cc cn ap na ra rb lq tp ta xs hv g fr bs hf h4 k hk hde
  · exact m_begin_1 l hst D dA h0 aco ali acu a1 a2 apd asc fo wn bn hwb kf ca hkf cc cn ap na ra rb lq tp ta xs hv g fr bs hf h4 k hk hde
  · exact m_begin_2 l hst D dA h0 aco ali acu a1 a2 apd asc fo wn bn hwb kf ca hkf cc cn ap na ra rb lq tp ta xs hv g fr bs hf h4 k hk hde
  · exact m_begin_3 l hst D dA h0 aco ali acu a1 a2 apd asc fo wn bn hwb kf ca hkf cc cn ap na ra rb lq tp ta xs hv g fr bs hf h4 k hk hde
  · exact m_begin_4 l hst D dA h0 aco ali acu a1 a2 apd asc fo wn bn hwb kf ca hkf cc cn ap na ra rb lq tp ta xs hv g fr bs hf h4 k hk hde
  · exact m_begin_5 l hst D dA h0 aco ali acu a1 a2 apd asc fo wn bn hwb kf ca hkf cc cn ap na ra rb lq tp ta xs hv g fr bs hf h4 k hk hde
set_option maxHeartbeats 4000000 in
/-- onList, on one -/
theorem m_onlist_t (l : Launch) (hst : l.stackTraces = false) (D : va_G) (dA : Nat → ClassId) (h0 aco ali acu a1 a2 apd asc fo wn bn : Nat) (hwb : wn ≤ 1000 ∧ bn ≤ 1000) (cf : Nat → Option Nat) (z : Int) (j cc cn : Nat) (tp : Int32) (hz : z = j ∧ j < 2) (hl9 : cf j = some cc) (ap : Nat) : pc_Q l yX1_onList cX1_onList 2 (.object "PostingCodes$Cursor") (pc_rm 2 0 0) D dA [.ref h0, .int (zI (z))] [(h0, .inr (9, [.ref aco, .ref ali, .ref acu, .ref a1, .ref a2, .ref apd, .ref asc, .ref fo, .int (zI (((wn : Nat) : Int))), .int (zI (((bn : Nat) : Int)))])), (acu, .inl (dA 7, 2, .inr (.inr (.inr (.inr cf))))), (cc, .inr (8, [.ref ap, .ref cn, .int (tp)]))] (fun r (_ : Unit) => r = some cc) (fun _ => [(h0, .inr (9, [.ref aco, .ref ali, .ref acu, .ref a1, .ref a2, .ref apd, .ref asc, .ref fo, .int (zI (((wn : Nat) : Int))), .int (zI (((bn : Nat) : Int)))])), (acu, .inl (dA 7, 2, .inr (.inr (.inr (.inr cf))))), (cc, .inr (8, [.ref ap, .ref cn, .int (tp)]))]) := by
  refine st_q hst (by decide) RX1 rfl (Nat.le_of_ble_eq_true rfl) (Or.inl ⟨_, rfl⟩) ?_
  intro pg ev s mt args below meth cd R A Q hR X exit H locs hw ls hl
  subst hR
  have hl : lv_has ls 2 [(0, .ref h0), (1, .int (zI (z)))] := hl
  refine lv_iload_n X.x X.b dX1_onList_0 rfl (lv_at hl 1 rfl) ?_
  refine z_iconst X dX1_onList_1 ?_
  refine cv_v (c1 := 0) (s1 := 0) X hw [] [0, 1, 2] (wr := [(h0, .inr (9, [.ref aco, .ref ali, .ref acu, .ref a1, .ref a2, .ref apd, .ref asc, .ref fo, .int (zI (((wn : Nat) : Int))), .int (zI (((bn : Nat) : Int)))])), (acu, .inl (dA 7, 2, .inr (.inr (.inr (.inr cf))))), (cc, .inr (8, [.ref ap, .ref cn, .int (tp)]))]) (va_runS (As := [.int (zI (z)), .int (zI 2)]) (rest := []) X.fix (m_exists_t l hst D dA z 2 (by omega) (by omega) _) (va_cwS 2 X.t (lw_S q239 q240 q37 q241) rfl rfl rfl (by decide +kernel) (pc_rmle (by decide) (by decide))) (pc_preS X hw [] rfl rfl) rfl rfl hl.1 rfl (lv_room (Nat.le_of_ble_eq_true rfl)) dX1_onList_2 ⟨Nat.le_of_ble_eq_true rfl, Nat.le_of_ble_eq_true rfl⟩) rfl rfl rfl rfl (fun _ _ => pc_c00) (fun u_2 H locs hq hw => ?_)
  have hw : pc_S D A s.heap [(h0, .inr (9, [.ref aco, .ref ali, .ref acu, .ref a1, .ref a2, .ref apd, .ref asc, .ref fo, .int (zI (((wn : Nat) : Int))), .int (zI (((bn : Nat) : Int)))])), (acu, .inl (dA 7, 2, .inr (.inr (.inr (.inr cf))))), (cc, .inr (8, [.ref ap, .ref cn, .int (tp)]))] H locs := hw
  refine lv_aload_n X.x X.b dX1_onList_5 rfl (lv_at hl 0 rfl) ?_
  refine z_get X hw in_X1 0 rfl rfl 2 (by decide) q184 rfl rfl dX1_onList_6 ?_
  refine lv_iload_n X.x X.b dX1_onList_9 rfl (lv_at hl 1 rfl) ?_
  refine z_aald X hw 1 7 j rfl rfl (by decide) (by omega) (v := .ref cc) (congrArg va_rf hl9) dX1_onList_10 ?_
  refine z_get X hw in_X9 2 rfl rfl 0 (by decide) q121 rfl rfl dX1_onList_11 ?_
  refine lv_ifnull X.x X.b dX1_onList_14 ?_
  refine z_iconst X dX1_onList_17 ?_
  refine lv_goto (tgt := 22) X.x X.b dX1_onList_18 (by decide) ?_
  refine cv_v (c1 := 0) (s1 := 0) X hw [] [0, 1, 2] (wr := [(h0, .inr (9, [.ref aco, .ref ali, .ref acu, .ref a1, .ref a2, .ref apd, .ref asc, .ref fo, .int (zI (((wn : Nat) : Int))), .int (zI (((bn : Nat) : Int)))])), (acu, .inl (dA 7, 2, .inr (.inr (.inr (.inr cf))))), (cc, .inr (8, [.ref ap, .ref cn, .int (tp)]))]) (va_runS (As := [.int (zI 1)]) (rest := []) X.fix (m_must_t l hst D dA _) (va_cwS 1 X.t (lw_S q327 q328 q37 q329) rfl rfl rfl (by decide +kernel) (pc_rmle (by decide) (by decide))) (pc_preS X hw [] rfl rfl) rfl rfl hl.1 rfl (lv_room (Nat.le_of_ble_eq_true rfl)) dX1_onList_22 ⟨Nat.le_of_ble_eq_true rfl, Nat.le_of_ble_eq_true rfl⟩) rfl rfl rfl rfl (fun _ _ => pc_c00) (fun u_4 H locs hq hw => ?_)
  have hw : pc_S D A s.heap [(h0, .inr (9, [.ref aco, .ref ali, .ref acu, .ref a1, .ref a2, .ref apd, .ref asc, .ref fo, .int (zI (((wn : Nat) : Int))), .int (zI (((bn : Nat) : Int)))])), (acu, .inl (dA 7, 2, .inr (.inr (.inr (.inr cf))))), (cc, .inr (8, [.ref ap, .ref cn, .int (tp)]))] H locs := hw
  refine lv_aload_n X.x X.b dX1_onList_25 rfl (lv_at hl 0 rfl) ?_
  refine z_get X hw in_X1 0 rfl rfl 2 (by decide) q184 rfl rfl dX1_onList_26 ?_
  refine lv_iload_n X.x X.b dX1_onList_29 rfl (lv_at hl 1 rfl) ?_
  refine z_aald X hw 1 7 j rfl rfl (by decide) (by omega) (v := .ref cc) (congrArg va_rf hl9) dX1_onList_30 ?_
  exact exit (r := some cc) () dX1_onList_31 rfl hw (Nat.zero_le _) (Nat.zero_le _)
set_option maxHeartbeats 4000000 in
/-- onList, on none -/
theorem m_onlist_o (l : Launch) (hst : l.stackTraces = false) (D : va_G) (dA : Nat → ClassId) (h0 aco ali acu a1 a2 apd asc fo wn bn : Nat) (hwb : wn ≤ 1000 ∧ bn ≤ 1000) (cf : Nat → Option Nat) (z : Int) (j cc cn : Nat) (tp : Int32) (hz : z = j ∧ j < 2) (hl9 : cf j = some cc) : px_Q l yX1_onList (ws_ yX1_onList cX1_onList 2 (some (.object "PostingCodes$Cursor"))) (pc_rm 2 1 6) D dA [.ref h0, .int (zI (z))] [(h0, .inr (9, [.ref aco, .ref ali, .ref acu, .ref a1, .ref a2, .ref apd, .ref asc, .ref fo, .int (zI (((wn : Nat) : Int))), .int (zI (((bn : Nat) : Int)))])), (acu, .inl (dA 7, 2, .inr (.inr (.inr (.inr cf))))), (cc, .inr (8, [.null, .ref cn, .int (tp)]))] (fun _ (_ : Unit) => False) (fun _ => [(h0, .inr (9, [.ref aco, .ref ali, .ref acu, .ref a1, .ref a2, .ref apd, .ref asc, .ref fo, .int (zI (((wn : Nat) : Int))), .int (zI (((bn : Nat) : Int)))])), (acu, .inl (dA 7, 2, .inr (.inr (.inr (.inr cf))))), (cc, .inr (8, [.null, .ref cn, .int (tp)]))]) (fun E (_ : Unit) => E = xISE) (fun _ => [(h0, .inr (9, [.ref aco, .ref ali, .ref acu, .ref a1, .ref a2, .ref apd, .ref asc, .ref fo, .int (zI (((wn : Nat) : Int))), .int (zI (((bn : Nat) : Int)))])), (acu, .inl (dA 7, 2, .inr (.inr (.inr (.inr cf))))), (cc, .inr (8, [.null, .ref cn, .int (tp)]))]) := by
  refine sx_q hst (by decide) RX1 rfl (Nat.le_of_ble_eq_true rfl) (Or.inl ⟨_, rfl⟩) ?_
  intro pg ev s mt args below meth cd R A Q hR X exit hout hthr H locs hw ls hl
  subst hR
  have hl : lv_has ls 2 [(0, .ref h0), (1, .int (zI (z)))] := hl
  refine lv_iload_n X.x X.b dX1_onList_0 rfl (lv_at hl 1 rfl) ?_
  refine z_iconst X dX1_onList_1 ?_
  refine cv_v (c1 := 0) (s1 := 0) X hw [] [0, 1, 2] (wr := [(h0, .inr (9, [.ref aco, .ref ali, .ref acu, .ref a1, .ref a2, .ref apd, .ref asc, .ref fo, .int (zI (((wn : Nat) : Int))), .int (zI (((bn : Nat) : Int)))])), (acu, .inl (dA 7, 2, .inr (.inr (.inr (.inr cf))))), (cc, .inr (8, [.null, .ref cn, .int (tp)]))]) (va_runS (As := [.int (zI (z)), .int (zI 2)]) (rest := []) X.fix (m_exists_t l hst D dA z 2 (by omega) (by omega) _) (va_cwS 2 X.t (lw_S q239 q240 q37 q241) rfl rfl rfl (by decide +kernel) (pc_rmle (by decide) (by decide))) (pc_preS X hw [] rfl rfl) rfl rfl hl.1 rfl (lv_room (Nat.le_of_ble_eq_true rfl)) dX1_onList_2 ⟨Nat.le_of_ble_eq_true rfl, Nat.le_of_ble_eq_true rfl⟩) rfl rfl rfl rfl (fun _ _ => pc_c00) (fun u_2 H locs hq hw => ?_)
  have hw : pc_S D A s.heap [(h0, .inr (9, [.ref aco, .ref ali, .ref acu, .ref a1, .ref a2, .ref apd, .ref asc, .ref fo, .int (zI (((wn : Nat) : Int))), .int (zI (((bn : Nat) : Int)))])), (acu, .inl (dA 7, 2, .inr (.inr (.inr (.inr cf))))), (cc, .inr (8, [.null, .ref cn, .int (tp)]))] H locs := hw
  refine lv_aload_n X.x X.b dX1_onList_5 rfl (lv_at hl 0 rfl) ?_
  refine z_get X hw in_X1 0 rfl rfl 2 (by decide) q184 rfl rfl dX1_onList_6 ?_
  refine lv_iload_n X.x X.b dX1_onList_9 rfl (lv_at hl 1 rfl) ?_
  refine z_aald X hw 1 7 j rfl rfl (by decide) (by omega) (v := .ref cc) (congrArg va_rf hl9) dX1_onList_10 ?_
  refine z_get X hw in_X9 2 rfl rfl 0 (by decide) q121 rfl rfl dX1_onList_11 ?_
  refine lv_ifnullN (tgt := 21) X.x X.b dX1_onList_14 (by decide) ?_
  refine z_iconst X dX1_onList_21 ?_
  refine cx_v (c1 := 0) (s1 := 0) X hw [] [0, 1, 2] (wr := [(h0, .inr (9, [.ref aco, .ref ali, .ref acu, .ref a1, .ref a2, .ref apd, .ref asc, .ref fo, .int (zI (((wn : Nat) : Int))), .int (zI (((bn : Nat) : Int)))])), (acu, .inl (dA 7, 2, .inr (.inr (.inr (.inr cf))))), (cc, .inr (8, [.null, .ref cn, .int (tp)]))]) (vx_runS (As := [.int (zI 0)]) (rest := []) X.fix (m_must_f l hst D dA _) (va_cwS 1 X.t (lw_S q327 q328 q37 q329) rfl rfl rfl (by decide +kernel) (pc_rmle (by decide) (by decide))) (pc_preS X hw [] rfl rfl) rfl rfl hl.1 rfl (lv_room (Nat.le_of_ble_eq_true rfl)) dX1_onList_22 ⟨Nat.le_refl _, Nat.le_refl _⟩) rfl rfl rfl rfl (fun E ce q9 ux_5 H locs hq hw h1 h2 h3 => ?_) (fun u hq => hq.elim) (fun u_4 H locs hq hw => ?_)
  · skip
    have hw : pc_S D A s.heap [(h0, .inr (9, [.ref aco, .ref ali, .ref acu, .ref a1, .ref a2, .ref apd, .ref asc, .ref fo, .int (zI (((wn : Nat) : Int))), .int (zI (((bn : Nat) : Int)))])), (acu, .inl (dA 7, 2, .inr (.inr (.inr (.inr cf))))), (cc, .inr (8, [.null, .ref cn, .int (tp)]))] H locs := hw
    exact hout () h1 h2 h3 hq hw (Nat.le_refl _) (Nat.le_refl _)
  · skip
    have hw : pc_S D A s.heap [(h0, .inr (9, [.ref aco, .ref ali, .ref acu, .ref a1, .ref a2, .ref apd, .ref asc, .ref fo, .int (zI (((wn : Nat) : Int))), .int (zI (((bn : Nat) : Int)))])), (acu, .inl (dA 7, 2, .inr (.inr (.inr (.inr cf))))), (cc, .inr (8, [.null, .ref cn, .int (tp)]))] H locs := hw
    exact hq.elim
set_option maxHeartbeats 4000000 in
/-- onList, not there -/
theorem m_onlist_f (l : Launch) (hst : l.stackTraces = false) (D : va_G) (dA : Nat → ClassId) (h0 aco ali acu a1 a2 apd asc fo wn bn : Nat) (hwb : wn ≤ 1000 ∧ bn ≤ 1000) (cf : Nat → Option Nat) (z : Int) (hz : ¬ (0 ≤ z ∧ z < 2)) (hr : -2147483648 ≤ z ∧ z < 2147483648) : px_Q l yX1_onList (ws_ yX1_onList cX1_onList 2 (some (.object "PostingCodes$Cursor"))) (pc_rm 2 1 6) D dA [.ref h0, .int (zI (z))] [(h0, .inr (9, [.ref aco, .ref ali, .ref acu, .ref a1, .ref a2, .ref apd, .ref asc, .ref fo, .int (zI (((wn : Nat) : Int))), .int (zI (((bn : Nat) : Int)))])), (acu, .inl (dA 7, 2, .inr (.inr (.inr (.inr cf)))))] (fun _ (_ : Unit) => False) (fun _ => [(h0, .inr (9, [.ref aco, .ref ali, .ref acu, .ref a1, .ref a2, .ref apd, .ref asc, .ref fo, .int (zI (((wn : Nat) : Int))), .int (zI (((bn : Nat) : Int)))])), (acu, .inl (dA 7, 2, .inr (.inr (.inr (.inr cf)))))]) (fun E (_ : Unit) => E = xNSEE) (fun _ => [(h0, .inr (9, [.ref aco, .ref ali, .ref acu, .ref a1, .ref a2, .ref apd, .ref asc, .ref fo, .int (zI (((wn : Nat) : Int))), .int (zI (((bn : Nat) : Int)))])), (acu, .inl (dA 7, 2, .inr (.inr (.inr (.inr cf)))))]) := by
  refine sx_q hst (by decide) RX1 rfl (Nat.le_of_ble_eq_true rfl) (Or.inl ⟨_, rfl⟩) ?_
  intro pg ev s mt args below meth cd R A Q hR X exit hout hthr H locs hw ls hl
  subst hR
  have hl : lv_has ls 2 [(0, .ref h0), (1, .int (zI (z)))] := hl
  refine lv_iload_n X.x X.b dX1_onList_0 rfl (lv_at hl 1 rfl) ?_
  refine z_iconst X dX1_onList_1 ?_
  refine cx_v (c1 := 0) (s1 := 0) X hw [] [0, 1] (wr := [(h0, .inr (9, [.ref aco, .ref ali, .ref acu, .ref a1, .ref a2, .ref apd, .ref asc, .ref fo, .int (zI (((wn : Nat) : Int))), .int (zI (((bn : Nat) : Int)))])), (acu, .inl (dA 7, 2, .inr (.inr (.inr (.inr cf)))))]) (vx_runS (As := [.int (zI (z)), .int (zI 2)]) (rest := []) X.fix (m_exists_f l hst D dA z 2 (by omega) (by omega) (by omega) _) (va_cwS 2 X.t (lw_S q239 q240 q37 q241) rfl rfl rfl (by decide +kernel) (pc_rmle (by decide) (by decide))) (pc_preS X hw [] rfl rfl) rfl rfl hl.1 rfl (lv_room (Nat.le_of_ble_eq_true rfl)) dX1_onList_2 ⟨Nat.le_refl _, Nat.le_refl _⟩) rfl rfl rfl rfl (fun E ce q9 ux_3 H locs hq hw h1 h2 h3 => ?_) (fun u hq => hq.elim) (fun u_2 H locs hq hw => ?_)
  · skip
    have hw : pc_S D A s.heap [(h0, .inr (9, [.ref aco, .ref ali, .ref acu, .ref a1, .ref a2, .ref apd, .ref asc, .ref fo, .int (zI (((wn : Nat) : Int))), .int (zI (((bn : Nat) : Int)))])), (acu, .inl (dA 7, 2, .inr (.inr (.inr (.inr cf)))))] H locs := hw
    exact hout () h1 h2 h3 hq hw (Nat.le_refl _) (Nat.le_refl _)
  · skip
    have hw : pc_S D A s.heap [(h0, .inr (9, [.ref aco, .ref ali, .ref acu, .ref a1, .ref a2, .ref apd, .ref asc, .ref fo, .int (zI (((wn : Nat) : Int))), .int (zI (((bn : Nat) : Int)))])), (acu, .inl (dA 7, 2, .inr (.inr (.inr (.inr cf)))))] H locs := hw
    exact hq.elim
set_option maxHeartbeats 4000000 in
/-- sum -/
theorem m_sum (l : Launch) (hst : l.stackTraces = false) (D : va_G) (dA : Nat → ClassId) (h0 aco ali acu a1 a2 apd asc fo wn bn : Nat) (hwb : wn ≤ 1000 ∧ bn ≤ 1000) (lf : Nat → Option Nat) (pa na ra rb ml bl : Nat → Nat) (cz : Nat → Int) (kd at9 : Nat → Int32) (b1 b2 : Bool) (hlf : ∀ j, j < 4 → lf j = some (pa j)) (hcd : ∀ j, j < 4 → -1 ≤ cz j ∧ cz j ≤ 5) (hml : ∀ j, j < 4 → ml j ≤ 1000) (hbl : ∀ j, j < 4 → bl j ≤ 1000) : pc_I l yX1_sum cX1_sum 8 .int (pc_rm 2 0 0) D dA [.ref h0, .int (zI (((b2n b1 : Nat) : Int))), .int (zI (((b2n b2 : Nat) : Int)))] [(h0, .inr (9, [.ref aco, .ref ali, .ref acu, .ref a1, .ref a2, .ref apd, .ref asc, .ref fo, .int (zI (((wn : Nat) : Int))), .int (zI (((bn : Nat) : Int)))])), (ali, .inl (dA 6, 4, .inr (.inr (.inr (.inr lf))))), ((pa 0), .inr (7, [.ref (na 0), .ref (ra 0), .int (zI (((ml 0 : Nat) : Int))), .int (zI (cz 0)), .int (kd 0)])), ((pa 1), .inr (7, [.ref (na 1), .ref (ra 1), .int (zI (((ml 1 : Nat) : Int))), .int (zI (cz 1)), .int (kd 1)])), ((pa 2), .inr (7, [.ref (na 2), .ref (ra 2), .int (zI (((ml 2 : Nat) : Int))), .int (zI (cz 2)), .int (kd 2)])), ((pa 3), .inr (7, [.ref (na 3), .ref (ra 3), .int (zI (((ml 3 : Nat) : Int))), .int (zI (cz 3)), .int (kd 3)])), ((ra 0), .inr (0, [.ref (rb 0), .int (zI (((bl 0 : Nat) : Int))), .int (at9 0)])), ((ra 1), .inr (0, [.ref (rb 1), .int (zI (((bl 1 : Nat) : Int))), .int (at9 1)])), ((ra 2), .inr (0, [.ref (rb 2), .int (zI (((bl 2 : Nat) : Int))), .int (at9 2)])), ((ra 3), .inr (0, [.ref (rb 3), .int (zI (((bl 3 : Nat) : Int))), .int (at9 3)]))] (fun r (_ : Unit) => r = zI ((sumN (if b1 then bl else ml) (fun j => decide (cz j ≠ -1) || !b2) 4 : Nat) : Int)) (fun _ => [(h0, .inr (9, [.ref aco, .ref ali, .ref acu, .ref a1, .ref a2, .ref apd, .ref asc, .ref fo, .int (zI (((wn : Nat) : Int))), .int (zI (((bn : Nat) : Int)))])), (ali, .inl (dA 6, 4, .inr (.inr (.inr (.inr lf))))), ((pa 0), .inr (7, [.ref (na 0), .ref (ra 0), .int (zI (((ml 0 : Nat) : Int))), .int (zI (cz 0)), .int (kd 0)])), ((pa 1), .inr (7, [.ref (na 1), .ref (ra 1), .int (zI (((ml 1 : Nat) : Int))), .int (zI (cz 1)), .int (kd 1)])), ((pa 2), .inr (7, [.ref (na 2), .ref (ra 2), .int (zI (((ml 2 : Nat) : Int))), .int (zI (cz 2)), .int (kd 2)])), ((pa 3), .inr (7, [.ref (na 3), .ref (ra 3), .int (zI (((ml 3 : Nat) : Int))), .int (zI (cz 3)), .int (kd 3)])), ((ra 0), .inr (0, [.ref (rb 0), .int (zI (((bl 0 : Nat) : Int))), .int (at9 0)])), ((ra 1), .inr (0, [.ref (rb 1), .int (zI (((bl 1 : Nat) : Int))), .int (at9 1)])), ((ra 2), .inr (0, [.ref (rb 2), .int (zI (((bl 2 : Nat) : Int))), .int (at9 2)])), ((ra 3), .inr (0, [.ref (rb 3), .int (zI (((bl 3 : Nat) : Int))), .int (at9 3)]))]) := by
  refine st_i hst (by decide) RX1 rfl (Nat.le_of_ble_eq_true rfl) ?_
  intro pg ev s mt args below meth cd R A Q hR X exit H locs hw ls hl
  subst hR
  have hl : lv_has ls 8 [(0, .ref h0), (1, .int (zI (((b2n b1 : Nat) : Int)))), (2, .int (zI (((b2n b2 : Nat) : Int))))] := hl
  have hb1 := b2n_le b1
  have hb2 := b2n_le b2
  have hall : ∀ j, j < 4 → (if b1 then bl else ml) j ≤ 1000 := by
    intro j hj
    cases b1
    · exact hml j hj
    · exact hbl j hj
  refine z_iconst X dX1_sum_0 ?_
  refine lv_istore_n (lv' := [(3, .int (zI 0)), (0, .ref h0), (1, .int (zI (((b2n b1 : Nat) : Int)))), (2, .int (zI (((b2n b2 : Nat) : Int))))]) X.x X.b dX1_sum_1 rfl hl (by decide) rfl (fun ls hl => ?_)
  refine lv_aload_n X.x X.b dX1_sum_2 rfl (lv_at hl 1 rfl) ?_
  refine z_get X hw in_X1 0 rfl rfl 1 (by decide) q183 rfl rfl dX1_sum_3 ?_
  refine lv_astore (lv' := [(4, .ref ali), (3, .int (zI 0)), (0, .ref h0), (1, .int (zI (((b2n b1 : Nat) : Int)))), (2, .int (zI (((b2n b2 : Nat) : Int))))]) X.x X.b dX1_sum_6 hl (by decide) rfl (fun ls hl => ?_)
  refine lv_aload X.x X.b dX1_sum_8 (lv_at hl 0 rfl) ?_
  refine z_alen (v := 4) X hw 1 6 rfl rfl rfl dX1_sum_10 ?_
  refine lv_istore (lv' := [(5, .int (zI 4)), (4, .ref ali), (3, .int (zI 0)), (0, .ref h0), (1, .int (zI (((b2n b1 : Nat) : Int)))), (2, .int (zI (((b2n b2 : Nat) : Int))))]) X.x X.b dX1_sum_11 hl (by decide) rfl (fun ls hl => ?_)
  refine z_iconst X dX1_sum_13 ?_
  refine lv_istore (lv' := [(6, .int (zI 0)), (5, .int (zI 4)), (4, .ref ali), (3, .int (zI 0)), (0, .ref h0), (1, .int (zI (((b2n b1 : Nat) : Int)))), (2, .int (zI (((b2n b2 : Nat) : Int))))]) X.x X.b dX1_sum_14 hl (by decide) rfl (fun ls hl => ?_)
  have B16 : ∀ (NN : Nat) (i : Nat) (hi : i ≤ 4) (hNN : 5 - i < NN) (H : Heap) (locs : List Loc), pc_S D A s.heap [(h0, .inr (9, [.ref aco, .ref ali, .ref acu, .ref a1, .ref a2, .ref apd, .ref asc, .ref fo, .int (zI (((wn : Nat) : Int))), .int (zI (((bn : Nat) : Int)))])), (ali, .inl (dA 6, 4, .inr (.inr (.inr (.inr lf))))), ((pa 0), .inr (7, [.ref (na 0), .ref (ra 0), .int (zI (((ml 0 : Nat) : Int))), .int (zI (cz 0)), .int (kd 0)])), ((pa 1), .inr (7, [.ref (na 1), .ref (ra 1), .int (zI (((ml 1 : Nat) : Int))), .int (zI (cz 1)), .int (kd 1)])), ((pa 2), .inr (7, [.ref (na 2), .ref (ra 2), .int (zI (((ml 2 : Nat) : Int))), .int (zI (cz 2)), .int (kd 2)])), ((pa 3), .inr (7, [.ref (na 3), .ref (ra 3), .int (zI (((ml 3 : Nat) : Int))), .int (zI (cz 3)), .int (kd 3)])), ((ra 0), .inr (0, [.ref (rb 0), .int (zI (((bl 0 : Nat) : Int))), .int (at9 0)])), ((ra 1), .inr (0, [.ref (rb 1), .int (zI (((bl 1 : Nat) : Int))), .int (at9 1)])), ((ra 2), .inr (0, [.ref (rb 2), .int (zI (((bl 2 : Nat) : Int))), .int (at9 2)])), ((ra 3), .inr (0, [.ref (rb 3), .int (zI (((bl 3 : Nat) : Int))), .int (at9 3)]))] H locs → ∀ ls : Array Slot, lv_has ls 8 [(0, .ref h0), (1, .int (zI (((b2n b1 : Nat) : Int)))), (2, .int (zI (((b2n b2 : Nat) : Int)))), (3, .int (zI (((sumN (if b1 then bl else ml) (fun j => decide (cz j ≠ -1) || !b2) i : Nat) : Int)))), (4, .ref ali), (5, .int (zI 4)), (6, .int (zI (((i : Nat) : Int))))] → W pg l ev (pc_rm 2 0 0) s mt args below meth cd H locs 0 0 Q (F0 mt 16 ls []) := by
    intro NN
    induction NN with
    | zero => intro i hi hNN; exact absurd hNN (Nat.not_lt_zero _)
    | succ NN ih16 =>
      intro i hi hNN H locs hw ls hl
      have hsl := sumN_le (if b1 then bl else ml) (fun j => decide (cz j ≠ -1) || !b2) 1000 hall i hi
      refine lv_iload X.x X.b dX1_sum_16 (lv_at hl 6 rfl) ?_
      refine lv_iload X.x X.b dX1_sum_18 (lv_at hl 5 rfl) ?_
      refine z_icmp_ge (tgt := 71) X dX1_sum_20 (by decide) (by omega) (by omega) (fun c_1 => ?_) (fun c_1 => ?_)
      · skip
        have hi9 : i = 4 := by omega
        refine lv_iload_n X.x X.b dX1_sum_71 rfl (lv_at hl 3 rfl) ?_
        exact exit () dX1_sum_72 rfl (by rw [hi9]) hw (Nat.zero_le _) (Nat.zero_le _)
      · skip
        rcases (show i = 0 ∨ i = 1 ∨ i = 2 ∨ i = 3 by omega) with rfl | rfl | rfl | rfl
        · skip
          have hcdj := hcd 0 (by decide)
          have hmlj := hml 0 (by decide)
          have hblj := hbl 0 (by decide)
          refine lv_aload X.x X.b dX1_sum_23 (lv_at hl 4 rfl) ?_
          refine lv_iload X.x X.b dX1_sum_25 (lv_at hl 6 rfl) ?_
          refine z_aald X hw 1 6 0 rfl rfl (by decide) (by omega) (v := .ref (pa 0)) (congrArg va_rf (hlf 0 (by decide))) dX1_sum_27 ?_
          refine lv_astore (lv' := [(7, .ref (pa 0)), (0, .ref h0), (1, .int (zI (((b2n b1 : Nat) : Int)))), (2, .int (zI (((b2n b2 : Nat) : Int)))), (3, .int (zI (((sumN (if b1 then bl else ml) (fun j => decide (cz j ≠ -1) || !b2) 0 : Nat) : Int)))), (4, .ref ali), (5, .int (zI 4)), (6, .int (zI (((0 : Nat) : Int))))]) X.x X.b dX1_sum_28 hl (by decide) rfl (fun ls hl => ?_)
          refine lv_aload X.x X.b dX1_sum_30 (lv_at hl 0 rfl) ?_
          refine cv_i (c1 := 0) (s1 := 0) X hw [2] [0, 1, 3, 4, 5, 6, 7, 8, 9] (wr := [(h0, .inr (9, [.ref aco, .ref ali, .ref acu, .ref a1, .ref a2, .ref apd, .ref asc, .ref fo, .int (zI (((wn : Nat) : Int))), .int (zI (((bn : Nat) : Int)))])), (ali, .inl (dA 6, 4, .inr (.inr (.inr (.inr lf))))), ((pa 1), .inr (7, [.ref (na 1), .ref (ra 1), .int (zI (((ml 1 : Nat) : Int))), .int (zI (cz 1)), .int (kd 1)])), ((pa 2), .inr (7, [.ref (na 2), .ref (ra 2), .int (zI (((ml 2 : Nat) : Int))), .int (zI (cz 2)), .int (kd 2)])), ((pa 3), .inr (7, [.ref (na 3), .ref (ra 3), .int (zI (((ml 3 : Nat) : Int))), .int (zI (cz 3)), .int (kd 3)])), ((ra 0), .inr (0, [.ref (rb 0), .int (zI (((bl 0 : Nat) : Int))), .int (at9 0)])), ((ra 1), .inr (0, [.ref (rb 1), .int (zI (((bl 1 : Nat) : Int))), .int (at9 1)])), ((ra 2), .inr (0, [.ref (rb 2), .int (zI (((bl 2 : Nat) : Int))), .int (at9 2)])), ((ra 3), .inr (0, [.ref (rb 3), .int (zI (((bl 3 : Nat) : Int))), .int (at9 3)]))]) (va_runV (As := []) (rest := []) X.fix (m_sealed l hst D dA (pa 0) (na 0) (ra 0) (zI ((ml 0 : Nat) : Int)) (kd 0) (cz 0) (by omega) _) (cwV 0 X.t (lw_V q221 q222 q223 q47 q224) rfl rfl rfl (by decide +kernel) (pc_rmle (by decide) (by decide))) (pc_preV X hw [2] rfl rfl 7 2 rfl rfl rfl) rfl rfl hl.1 rfl (lv_room (Nat.le_of_ble_eq_true rfl)) dX1_sum_32 ⟨Nat.le_of_ble_eq_true rfl, Nat.le_of_ble_eq_true rfl⟩) rfl rfl rfl rfl (fun _ _ _ => pc_c00) (fun r_2 u_3 H locs hq hw => ?_)
          have hw : pc_S D A s.heap [(h0, .inr (9, [.ref aco, .ref ali, .ref acu, .ref a1, .ref a2, .ref apd, .ref asc, .ref fo, .int (zI (((wn : Nat) : Int))), .int (zI (((bn : Nat) : Int)))])), (ali, .inl (dA 6, 4, .inr (.inr (.inr (.inr lf))))), ((pa 1), .inr (7, [.ref (na 1), .ref (ra 1), .int (zI (((ml 1 : Nat) : Int))), .int (zI (cz 1)), .int (kd 1)])), ((pa 2), .inr (7, [.ref (na 2), .ref (ra 2), .int (zI (((ml 2 : Nat) : Int))), .int (zI (cz 2)), .int (kd 2)])), ((pa 3), .inr (7, [.ref (na 3), .ref (ra 3), .int (zI (((ml 3 : Nat) : Int))), .int (zI (cz 3)), .int (kd 3)])), ((ra 0), .inr (0, [.ref (rb 0), .int (zI (((bl 0 : Nat) : Int))), .int (at9 0)])), ((ra 1), .inr (0, [.ref (rb 1), .int (zI (((bl 1 : Nat) : Int))), .int (at9 1)])), ((ra 2), .inr (0, [.ref (rb 2), .int (zI (((bl 2 : Nat) : Int))), .int (at9 2)])), ((ra 3), .inr (0, [.ref (rb 3), .int (zI (((bl 3 : Nat) : Int))), .int (at9 3)])), ((pa 0), .inr (7, [.ref (na 0), .ref (ra 0), .int (zI (((ml 0 : Nat) : Int))), .int (zI (cz 0)), .int (kd 0)]))] H locs := hw
          subst hq
          have hb7 := b2n_le (decide (cz 0 ≠ -1))
          refine z_if_ne (tgt := 42) X dX1_sum_35 (by decide) (by omega) (fun c_4 => ?_) (fun c_4 => ?_)
          · skip
            have hs7 : decide (cz 0 ≠ -1) = true := by
              cases h : decide (cz 0 ≠ -1) with
              | true => rfl
              | false => rw [h] at c_4; exact absurd rfl c_4
            refine lv_iload_n X.x X.b dX1_sum_42 rfl (lv_at hl 4 rfl) ?_
            refine lv_iload_n X.x X.b dX1_sum_43 rfl (lv_at hl 2 rfl) ?_
            refine z_if_eq (tgt := 58) X dX1_sum_44 (by decide) (by omega) (fun c_5 => ?_) (fun c_5 => ?_)
            · skip
              have hb19 : b1 = false := by
                cases h : b1 with
                | false => rfl
                | true => rw [h] at c_5; exact absurd c_5 (by decide)
              refine lv_aload X.x X.b dX1_sum_58 (lv_at hl 0 rfl) ?_
              refine z_get X hw in_X11 9 rfl rfl 2 (by decide) q166 rfl rfl dX1_sum_60 ?_
              refine z_iadd X dX1_sum_63 ?_
              refine top_i (y := zI (((sumN (if b1 then bl else ml) (fun j => decide (cz j ≠ -1) || !b2) 0) + (ml 0) : Nat) : Int)) (congrArg zI (by omega)) ?_
              refine lv_istore_n (lv' := [(3, .int (zI ((((sumN (if b1 then bl else ml) (fun j => decide (cz j ≠ -1) || !b2) 0) + (ml 0) : Nat) : Int)))), (7, .ref (pa 0)), (0, .ref h0), (1, .int (zI (((b2n b1 : Nat) : Int)))), (2, .int (zI (((b2n b2 : Nat) : Int)))), (4, .ref ali), (5, .int (zI 4)), (6, .int (zI (((0 : Nat) : Int))))]) X.x X.b dX1_sum_64 rfl hl (by decide) rfl (fun ls hl => ?_)
              have hw : pc_S D A s.heap [(h0, .inr (9, [.ref aco, .ref ali, .ref acu, .ref a1, .ref a2, .ref apd, .ref asc, .ref fo, .int (zI (((wn : Nat) : Int))), .int (zI (((bn : Nat) : Int)))])), (ali, .inl (dA 6, 4, .inr (.inr (.inr (.inr lf))))), ((pa 0), .inr (7, [.ref (na 0), .ref (ra 0), .int (zI (((ml 0 : Nat) : Int))), .int (zI (cz 0)), .int (kd 0)])), ((pa 1), .inr (7, [.ref (na 1), .ref (ra 1), .int (zI (((ml 1 : Nat) : Int))), .int (zI (cz 1)), .int (kd 1)])), ((pa 2), .inr (7, [.ref (na 2), .ref (ra 2), .int (zI (((ml 2 : Nat) : Int))), .int (zI (cz 2)), .int (kd 2)])), ((pa 3), .inr (7, [.ref (na 3), .ref (ra 3), .int (zI (((ml 3 : Nat) : Int))), .int (zI (cz 3)), .int (kd 3)])), ((ra 0), .inr (0, [.ref (rb 0), .int (zI (((bl 0 : Nat) : Int))), .int (at9 0)])), ((ra 1), .inr (0, [.ref (rb 1), .int (zI (((bl 1 : Nat) : Int))), .int (at9 1)])), ((ra 2), .inr (0, [.ref (rb 2), .int (zI (((bl 2 : Nat) : Int))), .int (at9 2)])), ((ra 3), .inr (0, [.ref (rb 3), .int (zI (((bl 3 : Nat) : Int))), .int (at9 3)]))] H locs := hw.sub [0, 1, 9, 2, 3, 4, 5, 6, 7, 8] rfl rfl
              refine z_iinc (lv' := [(6, .int (zI (((0 : Nat) : Int) + 1))), (3, .int (zI ((((sumN (if b1 then bl else ml) (fun j => decide (cz j ≠ -1) || !b2) 0) + (ml 0) : Nat) : Int)))), (7, .ref (pa 0)), (0, .ref h0), (1, .int (zI (((b2n b1 : Nat) : Int)))), (2, .int (zI (((b2n b2 : Nat) : Int)))), (4, .ref ali), (5, .int (zI 4))]) X dX1_sum_65 hl (k0 := 7) rfl (by decide) rfl (fun ls hl => ?_)
              refine lv_goto (tgt := 16) X.x X.b dX1_sum_68 (by decide) ?_
              have hl : lv_has ls 8 [(6, .int (zI (((0 : Nat) : Int) + 1))), (3, .int (zI (((sumN (if b1 then bl else ml) (fun j => decide (cz j ≠ -1) || !b2) (0 + 1) : Nat) : Int)))), (7, .ref (pa 0)), (0, .ref h0), (1, .int (zI (((b2n b1 : Nat) : Int)))), (2, .int (zI (((b2n b2 : Nat) : Int)))), (4, .ref ali), (5, .int (zI 4))] := by rw [show (((sumN (if b1 then bl else ml) (fun j => decide (cz j ≠ -1) || !b2) (0 + 1) : Nat) : Int) : Int) = (((sumN (if b1 then bl else ml) (fun j => decide (cz j ≠ -1) || !b2) 0) + (ml 0) : Nat) : Int) from by simp [sumN, hs7, hb19]]; exact hl
              have hl : lv_has ls 8 [(6, .int (zI (((0 + 1 : Nat) : Int)))), (3, .int (zI (((sumN (if b1 then bl else ml) (fun j => decide (cz j ≠ -1) || !b2) (0 + 1) : Nat) : Int)))), (7, .ref (pa 0)), (0, .ref h0), (1, .int (zI (((b2n b1 : Nat) : Int)))), (2, .int (zI (((b2n b2 : Nat) : Int)))), (4, .ref ali), (5, .int (zI 4))] := by rw [show (((0 + 1 : Nat) : Int) : Int) = ((0 : Nat) : Int) + 1 from by omega]; exact hl
              exact ih16  (0 + 1) (by omega) (by omega) H locs hw ls (lv_sub hl [3, 4, 5, 1, 6, 7, 0] rfl)
            · skip
              have hb19 : b1 = true := by
                cases h : b1 with
                | true => rfl
                | false => rw [h] at c_5; exact absurd rfl c_5
              refine lv_aload X.x X.b dX1_sum_47 (lv_at hl 0 rfl) ?_
              refine z_get X hw in_X11 9 rfl rfl 1 (by decide) q163 rfl rfl dX1_sum_49 ?_
              refine z_get X hw in_X10 5 rfl rfl 1 (by decide) q142 rfl rfl dX1_sum_52 ?_
              refine lv_goto (tgt := 63) X.x X.b dX1_sum_55 (by decide) ?_
              refine z_iadd X dX1_sum_63 ?_
              refine top_i (y := zI (((sumN (if b1 then bl else ml) (fun j => decide (cz j ≠ -1) || !b2) 0) + (bl 0) : Nat) : Int)) (congrArg zI (by omega)) ?_
              refine lv_istore_n (lv' := [(3, .int (zI ((((sumN (if b1 then bl else ml) (fun j => decide (cz j ≠ -1) || !b2) 0) + (bl 0) : Nat) : Int)))), (7, .ref (pa 0)), (0, .ref h0), (1, .int (zI (((b2n b1 : Nat) : Int)))), (2, .int (zI (((b2n b2 : Nat) : Int)))), (4, .ref ali), (5, .int (zI 4)), (6, .int (zI (((0 : Nat) : Int))))]) X.x X.b dX1_sum_64 rfl hl (by decide) rfl (fun ls hl => ?_)
              have hw : pc_S D A s.heap [(h0, .inr (9, [.ref aco, .ref ali, .ref acu, .ref a1, .ref a2, .ref apd, .ref asc, .ref fo, .int (zI (((wn : Nat) : Int))), .int (zI (((bn : Nat) : Int)))])), (ali, .inl (dA 6, 4, .inr (.inr (.inr (.inr lf))))), ((pa 0), .inr (7, [.ref (na 0), .ref (ra 0), .int (zI (((ml 0 : Nat) : Int))), .int (zI (cz 0)), .int (kd 0)])), ((pa 1), .inr (7, [.ref (na 1), .ref (ra 1), .int (zI (((ml 1 : Nat) : Int))), .int (zI (cz 1)), .int (kd 1)])), ((pa 2), .inr (7, [.ref (na 2), .ref (ra 2), .int (zI (((ml 2 : Nat) : Int))), .int (zI (cz 2)), .int (kd 2)])), ((pa 3), .inr (7, [.ref (na 3), .ref (ra 3), .int (zI (((ml 3 : Nat) : Int))), .int (zI (cz 3)), .int (kd 3)])), ((ra 0), .inr (0, [.ref (rb 0), .int (zI (((bl 0 : Nat) : Int))), .int (at9 0)])), ((ra 1), .inr (0, [.ref (rb 1), .int (zI (((bl 1 : Nat) : Int))), .int (at9 1)])), ((ra 2), .inr (0, [.ref (rb 2), .int (zI (((bl 2 : Nat) : Int))), .int (at9 2)])), ((ra 3), .inr (0, [.ref (rb 3), .int (zI (((bl 3 : Nat) : Int))), .int (at9 3)]))] H locs := hw.sub [0, 1, 9, 2, 3, 4, 5, 6, 7, 8] rfl rfl
              refine z_iinc (lv' := [(6, .int (zI (((0 : Nat) : Int) + 1))), (3, .int (zI ((((sumN (if b1 then bl else ml) (fun j => decide (cz j ≠ -1) || !b2) 0) + (bl 0) : Nat) : Int)))), (7, .ref (pa 0)), (0, .ref h0), (1, .int (zI (((b2n b1 : Nat) : Int)))), (2, .int (zI (((b2n b2 : Nat) : Int)))), (4, .ref ali), (5, .int (zI 4))]) X dX1_sum_65 hl (k0 := 7) rfl (by decide) rfl (fun ls hl => ?_)
              refine lv_goto (tgt := 16) X.x X.b dX1_sum_68 (by decide) ?_
              have hl : lv_has ls 8 [(6, .int (zI (((0 : Nat) : Int) + 1))), (3, .int (zI (((sumN (if b1 then bl else ml) (fun j => decide (cz j ≠ -1) || !b2) (0 + 1) : Nat) : Int)))), (7, .ref (pa 0)), (0, .ref h0), (1, .int (zI (((b2n b1 : Nat) : Int)))), (2, .int (zI (((b2n b2 : Nat) : Int)))), (4, .ref ali), (5, .int (zI 4))] := by rw [show (((sumN (if b1 then bl else ml) (fun j => decide (cz j ≠ -1) || !b2) (0 + 1) : Nat) : Int) : Int) = (((sumN (if b1 then bl else ml) (fun j => decide (cz j ≠ -1) || !b2) 0) + (bl 0) : Nat) : Int) from by simp [sumN, hs7, hb19]]; exact hl
              have hl : lv_has ls 8 [(6, .int (zI (((0 + 1 : Nat) : Int)))), (3, .int (zI (((sumN (if b1 then bl else ml) (fun j => decide (cz j ≠ -1) || !b2) (0 + 1) : Nat) : Int)))), (7, .ref (pa 0)), (0, .ref h0), (1, .int (zI (((b2n b1 : Nat) : Int)))), (2, .int (zI (((b2n b2 : Nat) : Int)))), (4, .ref ali), (5, .int (zI 4))] := by rw [show (((0 + 1 : Nat) : Int) : Int) = ((0 : Nat) : Int) + 1 from by omega]; exact hl
              exact ih16  (0 + 1) (by omega) (by omega) H locs hw ls (lv_sub hl [3, 4, 5, 1, 6, 7, 0] rfl)
          · skip
            have hs7 : decide (cz 0 ≠ -1) = false := by
              cases h : decide (cz 0 ≠ -1) with
              | false => rfl
              | true => rw [h] at c_4; exact absurd c_4 (by decide)
            refine lv_iload_n X.x X.b dX1_sum_38 rfl (lv_at hl 3 rfl) ?_
            refine z_if_ne (tgt := 65) X dX1_sum_39 (by decide) (by omega) (fun c_6 => ?_) (fun c_6 => ?_)
            · skip
              have hb29 : b2 = true := by
                cases h : b2 with
                | true => rfl
                | false => rw [h] at c_6; exact absurd rfl c_6
              have hw : pc_S D A s.heap [(h0, .inr (9, [.ref aco, .ref ali, .ref acu, .ref a1, .ref a2, .ref apd, .ref asc, .ref fo, .int (zI (((wn : Nat) : Int))), .int (zI (((bn : Nat) : Int)))])), (ali, .inl (dA 6, 4, .inr (.inr (.inr (.inr lf))))), ((pa 0), .inr (7, [.ref (na 0), .ref (ra 0), .int (zI (((ml 0 : Nat) : Int))), .int (zI (cz 0)), .int (kd 0)])), ((pa 1), .inr (7, [.ref (na 1), .ref (ra 1), .int (zI (((ml 1 : Nat) : Int))), .int (zI (cz 1)), .int (kd 1)])), ((pa 2), .inr (7, [.ref (na 2), .ref (ra 2), .int (zI (((ml 2 : Nat) : Int))), .int (zI (cz 2)), .int (kd 2)])), ((pa 3), .inr (7, [.ref (na 3), .ref (ra 3), .int (zI (((ml 3 : Nat) : Int))), .int (zI (cz 3)), .int (kd 3)])), ((ra 0), .inr (0, [.ref (rb 0), .int (zI (((bl 0 : Nat) : Int))), .int (at9 0)])), ((ra 1), .inr (0, [.ref (rb 1), .int (zI (((bl 1 : Nat) : Int))), .int (at9 1)])), ((ra 2), .inr (0, [.ref (rb 2), .int (zI (((bl 2 : Nat) : Int))), .int (at9 2)])), ((ra 3), .inr (0, [.ref (rb 3), .int (zI (((bl 3 : Nat) : Int))), .int (at9 3)]))] H locs := hw.sub [0, 1, 9, 2, 3, 4, 5, 6, 7, 8] rfl rfl
              refine z_iinc (lv' := [(6, .int (zI (((0 : Nat) : Int) + 1))), (7, .ref (pa 0)), (0, .ref h0), (1, .int (zI (((b2n b1 : Nat) : Int)))), (2, .int (zI (((b2n b2 : Nat) : Int)))), (3, .int (zI (((sumN (if b1 then bl else ml) (fun j => decide (cz j ≠ -1) || !b2) 0 : Nat) : Int)))), (4, .ref ali), (5, .int (zI 4))]) X dX1_sum_65 hl (k0 := 7) rfl (by decide) rfl (fun ls hl => ?_)
              refine lv_goto (tgt := 16) X.x X.b dX1_sum_68 (by decide) ?_
              have hl : lv_has ls 8 [(6, .int (zI (((0 : Nat) : Int) + 1))), (7, .ref (pa 0)), (0, .ref h0), (1, .int (zI (((b2n b1 : Nat) : Int)))), (2, .int (zI (((b2n b2 : Nat) : Int)))), (3, .int (zI (((sumN (if b1 then bl else ml) (fun j => decide (cz j ≠ -1) || !b2) (0 + 1) : Nat) : Int)))), (4, .ref ali), (5, .int (zI 4))] := by rw [show (((sumN (if b1 then bl else ml) (fun j => decide (cz j ≠ -1) || !b2) (0 + 1) : Nat) : Int) : Int) = ((sumN (if b1 then bl else ml) (fun j => decide (cz j ≠ -1) || !b2) 0 : Nat) : Int) from by simp [sumN, hs7, hb29]]; exact hl
              have hl : lv_has ls 8 [(6, .int (zI (((0 + 1 : Nat) : Int)))), (7, .ref (pa 0)), (0, .ref h0), (1, .int (zI (((b2n b1 : Nat) : Int)))), (2, .int (zI (((b2n b2 : Nat) : Int)))), (3, .int (zI (((sumN (if b1 then bl else ml) (fun j => decide (cz j ≠ -1) || !b2) (0 + 1) : Nat) : Int)))), (4, .ref ali), (5, .int (zI 4))] := by rw [show (((0 + 1 : Nat) : Int) : Int) = ((0 : Nat) : Int) + 1 from by omega]; exact hl
              exact ih16  (0 + 1) (by omega) (by omega) H locs hw ls (lv_sub hl [2, 3, 4, 5, 6, 7, 0] rfl)
            · skip
              have hb29 : b2 = false := by
                cases h : b2 with
                | false => rfl
                | true => rw [h] at c_6; exact absurd c_6 (by decide)
              refine lv_iload_n X.x X.b dX1_sum_42 rfl (lv_at hl 4 rfl) ?_
              refine lv_iload_n X.x X.b dX1_sum_43 rfl (lv_at hl 2 rfl) ?_
              refine z_if_eq (tgt := 58) X dX1_sum_44 (by decide) (by omega) (fun c_7 => ?_) (fun c_7 => ?_)
              · skip
                have hb19 : b1 = false := by
                  cases h : b1 with
                  | false => rfl
                  | true => rw [h] at c_7; exact absurd c_7 (by decide)
                refine lv_aload X.x X.b dX1_sum_58 (lv_at hl 0 rfl) ?_
                refine z_get X hw in_X11 9 rfl rfl 2 (by decide) q166 rfl rfl dX1_sum_60 ?_
                refine z_iadd X dX1_sum_63 ?_
                refine top_i (y := zI (((sumN (if b1 then bl else ml) (fun j => decide (cz j ≠ -1) || !b2) 0) + (ml 0) : Nat) : Int)) (congrArg zI (by omega)) ?_
                refine lv_istore_n (lv' := [(3, .int (zI ((((sumN (if b1 then bl else ml) (fun j => decide (cz j ≠ -1) || !b2) 0) + (ml 0) : Nat) : Int)))), (7, .ref (pa 0)), (0, .ref h0), (1, .int (zI (((b2n b1 : Nat) : Int)))), (2, .int (zI (((b2n b2 : Nat) : Int)))), (4, .ref ali), (5, .int (zI 4)), (6, .int (zI (((0 : Nat) : Int))))]) X.x X.b dX1_sum_64 rfl hl (by decide) rfl (fun ls hl => ?_)
                have hw : pc_S D A s.heap [(h0, .inr (9, [.ref aco, .ref ali, .ref acu, .ref a1, .ref a2, .ref apd, .ref asc, .ref fo, .int (zI (((wn : Nat) : Int))), .int (zI (((bn : Nat) : Int)))])), (ali, .inl (dA 6, 4, .inr (.inr (.inr (.inr lf))))), ((pa 0), .inr (7, [.ref (na 0), .ref (ra 0), .int (zI (((ml 0 : Nat) : Int))), .int (zI (cz 0)), .int (kd 0)])), ((pa 1), .inr (7, [.ref (na 1), .ref (ra 1), .int (zI (((ml 1 : Nat) : Int))), .int (zI (cz 1)), .int (kd 1)])), ((pa 2), .inr (7, [.ref (na 2), .ref (ra 2), .int (zI (((ml 2 : Nat) : Int))), .int (zI (cz 2)), .int (kd 2)])), ((pa 3), .inr (7, [.ref (na 3), .ref (ra 3), .int (zI (((ml 3 : Nat) : Int))), .int (zI (cz 3)), .int (kd 3)])), ((ra 0), .inr (0, [.ref (rb 0), .int (zI (((bl 0 : Nat) : Int))), .int (at9 0)])), ((ra 1), .inr (0, [.ref (rb 1), .int (zI (((bl 1 : Nat) : Int))), .int (at9 1)])), ((ra 2), .inr (0, [.ref (rb 2), .int (zI (((bl 2 : Nat) : Int))), .int (at9 2)])), ((ra 3), .inr (0, [.ref (rb 3), .int (zI (((bl 3 : Nat) : Int))), .int (at9 3)]))] H locs := hw.sub [0, 1, 9, 2, 3, 4, 5, 6, 7, 8] rfl rfl
                refine z_iinc (lv' := [(6, .int (zI (((0 : Nat) : Int) + 1))), (3, .int (zI ((((sumN (if b1 then bl else ml) (fun j => decide (cz j ≠ -1) || !b2) 0) + (ml 0) : Nat) : Int)))), (7, .ref (pa 0)), (0, .ref h0), (1, .int (zI (((b2n b1 : Nat) : Int)))), (2, .int (zI (((b2n b2 : Nat) : Int)))), (4, .ref ali), (5, .int (zI 4))]) X dX1_sum_65 hl (k0 := 7) rfl (by decide) rfl (fun ls hl => ?_)
                refine lv_goto (tgt := 16) X.x X.b dX1_sum_68 (by decide) ?_
                have hl : lv_has ls 8 [(6, .int (zI (((0 : Nat) : Int) + 1))), (3, .int (zI (((sumN (if b1 then bl else ml) (fun j => decide (cz j ≠ -1) || !b2) (0 + 1) : Nat) : Int)))), (7, .ref (pa 0)), (0, .ref h0), (1, .int (zI (((b2n b1 : Nat) : Int)))), (2, .int (zI (((b2n b2 : Nat) : Int)))), (4, .ref ali), (5, .int (zI 4))] := by rw [show (((sumN (if b1 then bl else ml) (fun j => decide (cz j ≠ -1) || !b2) (0 + 1) : Nat) : Int) : Int) = (((sumN (if b1 then bl else ml) (fun j => decide (cz j ≠ -1) || !b2) 0) + (ml 0) : Nat) : Int) from by simp [sumN, hs7, hb29, hb19]]; exact hl
                have hl : lv_has ls 8 [(6, .int (zI (((0 + 1 : Nat) : Int)))), (3, .int (zI (((sumN (if b1 then bl else ml) (fun j => decide (cz j ≠ -1) || !b2) (0 + 1) : Nat) : Int)))), (7, .ref (pa 0)), (0, .ref h0), (1, .int (zI (((b2n b1 : Nat) : Int)))), (2, .int (zI (((b2n b2 : Nat) : Int)))), (4, .ref ali), (5, .int (zI 4))] := by rw [show (((0 + 1 : Nat) : Int) : Int) = ((0 : Nat) : Int) + 1 from by omega]; exact hl
                exact ih16  (0 + 1) (by omega) (by omega) H locs hw ls (lv_sub hl [3, 4, 5, 1, 6, 7, 0] rfl)
              · skip
                have hb19 : b1 = true := by
                  cases h : b1 with
                  | true => rfl
                  | false => rw [h] at c_7; exact absurd rfl c_7
                refine lv_aload X.x X.b dX1_sum_47 (lv_at hl 0 rfl) ?_
                refine z_get X hw in_X11 9 rfl rfl 1 (by decide) q163 rfl rfl dX1_sum_49 ?_
                refine z_get X hw in_X10 5 rfl rfl 1 (by decide) q142 rfl rfl dX1_sum_52 ?_
                refine lv_goto (tgt := 63) X.x X.b dX1_sum_55 (by decide) ?_
                refine z_iadd X dX1_sum_63 ?_
                refine top_i (y := zI (((sumN (if b1 then bl else ml) (fun j => decide (cz j ≠ -1) || !b2) 0) + (bl 0) : Nat) : Int)) (congrArg zI (by omega)) ?_
                refine lv_istore_n (lv' := [(3, .int (zI ((((sumN (if b1 then bl else ml) (fun j => decide (cz j ≠ -1) || !b2) 0) + (bl 0) : Nat) : Int)))), (7, .ref (pa 0)), (0, .ref h0), (1, .int (zI (((b2n b1 : Nat) : Int)))), (2, .int (zI (((b2n b2 : Nat) : Int)))), (4, .ref ali), (5, .int (zI 4)), (6, .int (zI (((0 : Nat) : Int))))]) X.x X.b dX1_sum_64 rfl hl (by decide) rfl (fun ls hl => ?_)
                have hw : pc_S D A s.heap [(h0, .inr (9, [.ref aco, .ref ali, .ref acu, .ref a1, .ref a2, .ref apd, .ref asc, .ref fo, .int (zI (((wn : Nat) : Int))), .int (zI (((bn : Nat) : Int)))])), (ali, .inl (dA 6, 4, .inr (.inr (.inr (.inr lf))))), ((pa 0), .inr (7, [.ref (na 0), .ref (ra 0), .int (zI (((ml 0 : Nat) : Int))), .int (zI (cz 0)), .int (kd 0)])), ((pa 1), .inr (7, [.ref (na 1), .ref (ra 1), .int (zI (((ml 1 : Nat) : Int))), .int (zI (cz 1)), .int (kd 1)])), ((pa 2), .inr (7, [.ref (na 2), .ref (ra 2), .int (zI (((ml 2 : Nat) : Int))), .int (zI (cz 2)), .int (kd 2)])), ((pa 3), .inr (7, [.ref (na 3), .ref (ra 3), .int (zI (((ml 3 : Nat) : Int))), .int (zI (cz 3)), .int (kd 3)])), ((ra 0), .inr (0, [.ref (rb 0), .int (zI (((bl 0 : Nat) : Int))), .int (at9 0)])), ((ra 1), .inr (0, [.ref (rb 1), .int (zI (((bl 1 : Nat) : Int))), .int (at9 1)])), ((ra 2), .inr (0, [.ref (rb 2), .int (zI (((bl 2 : Nat) : Int))), .int (at9 2)])), ((ra 3), .inr (0, [.ref (rb 3), .int (zI (((bl 3 : Nat) : Int))), .int (at9 3)]))] H locs := hw.sub [0, 1, 9, 2, 3, 4, 5, 6, 7, 8] rfl rfl
                refine z_iinc (lv' := [(6, .int (zI (((0 : Nat) : Int) + 1))), (3, .int (zI ((((sumN (if b1 then bl else ml) (fun j => decide (cz j ≠ -1) || !b2) 0) + (bl 0) : Nat) : Int)))), (7, .ref (pa 0)), (0, .ref h0), (1, .int (zI (((b2n b1 : Nat) : Int)))), (2, .int (zI (((b2n b2 : Nat) : Int)))), (4, .ref ali), (5, .int (zI 4))]) X dX1_sum_65 hl (k0 := 7) rfl (by decide) rfl (fun ls hl => ?_)
                refine lv_goto (tgt := 16) X.x X.b dX1_sum_68 (by decide) ?_
                have hl : lv_has ls 8 [(6, .int (zI (((0 : Nat) : Int) + 1))), (3, .int (zI (((sumN (if b1 then bl else ml) (fun j => decide (cz j ≠ -1) || !b2) (0 + 1) : Nat) : Int)))), (7, .ref (pa 0)), (0, .ref h0), (1, .int (zI (((b2n b1 : Nat) : Int)))), (2, .int (zI (((b2n b2 : Nat) : Int)))), (4, .ref ali), (5, .int (zI 4))] := by rw [show (((sumN (if b1 then bl else ml) (fun j => decide (cz j ≠ -1) || !b2) (0 + 1) : Nat) : Int) : Int) = (((sumN (if b1 then bl else ml) (fun j => decide (cz j ≠ -1) || !b2) 0) + (bl 0) : Nat) : Int) from by simp [sumN, hs7, hb29, hb19]]; exact hl
                have hl : lv_has ls 8 [(6, .int (zI (((0 + 1 : Nat) : Int)))), (3, .int (zI (((sumN (if b1 then bl else ml) (fun j => decide (cz j ≠ -1) || !b2) (0 + 1) : Nat) : Int)))), (7, .ref (pa 0)), (0, .ref h0), (1, .int (zI (((b2n b1 : Nat) : Int)))), (2, .int (zI (((b2n b2 : Nat) : Int)))), (4, .ref ali), (5, .int (zI 4))] := by rw [show (((0 + 1 : Nat) : Int) : Int) = ((0 : Nat) : Int) + 1 from by omega]; exact hl
                exact ih16  (0 + 1) (by omega) (by omega) H locs hw ls (lv_sub hl [3, 4, 5, 1, 6, 7, 0] rfl)
        · skip
          have hcdj := hcd 1 (by decide)
          have hmlj := hml 1 (by decide)
          have hblj := hbl 1 (by decide)
          refine lv_aload X.x X.b dX1_sum_23 (lv_at hl 4 rfl) ?_
          refine lv_iload X.x X.b dX1_sum_25 (lv_at hl 6 rfl) ?_
          refine z_aald X hw 1 6 1 rfl rfl (by decide) (by omega) (v := .ref (pa 1)) (congrArg va_rf (hlf 1 (by decide))) dX1_sum_27 ?_
          refine lv_astore (lv' := [(7, .ref (pa 1)), (0, .ref h0), (1, .int (zI (((b2n b1 : Nat) : Int)))), (2, .int (zI (((b2n b2 : Nat) : Int)))), (3, .int (zI (((sumN (if b1 then bl else ml) (fun j => decide (cz j ≠ -1) || !b2) 1 : Nat) : Int)))), (4, .ref ali), (5, .int (zI 4)), (6, .int (zI (((1 : Nat) : Int))))]) X.x X.b dX1_sum_28 hl (by decide) rfl (fun ls hl => ?_)
          refine lv_aload X.x X.b dX1_sum_30 (lv_at hl 0 rfl) ?_
          refine cv_i (c1 := 0) (s1 := 0) X hw [3] [0, 1, 2, 4, 5, 6, 7, 8, 9] (wr := [(h0, .inr (9, [.ref aco, .ref ali, .ref acu, .ref a1, .ref a2, .ref apd, .ref asc, .ref fo, .int (zI (((wn : Nat) : Int))), .int (zI (((bn : Nat) : Int)))])), (ali, .inl (dA 6, 4, .inr (.inr (.inr (.inr lf))))), ((pa 0), .inr (7, [.ref (na 0), .ref (ra 0), .int (zI (((ml 0 : Nat) : Int))), .int (zI (cz 0)), .int (kd 0)])), ((pa 2), .inr (7, [.ref (na 2), .ref (ra 2), .int (zI (((ml 2 : Nat) : Int))), .int (zI (cz 2)), .int (kd 2)])), ((pa 3), .inr (7, [.ref (na 3), .ref (ra 3), .int (zI (((ml 3 : Nat) : Int))), .int (zI (cz 3)), .int (kd 3)])), ((ra 0), .inr (0, [.ref (rb 0), .int (zI (((bl 0 : Nat) : Int))), .int (at9 0)])), ((ra 1), .inr (0, [.ref (rb 1), .int (zI (((bl 1 : Nat) : Int))), .int (at9 1)])), ((ra 2), .inr (0, [.ref (rb 2), .int (zI (((bl 2 : Nat) : Int))), .int (at9 2)])), ((ra 3), .inr (0, [.ref (rb 3), .int (zI (((bl 3 : Nat) : Int))), .int (at9 3)]))]) (va_runV (As := []) (rest := []) X.fix (m_sealed l hst D dA (pa 1) (na 1) (ra 1) (zI ((ml 1 : Nat) : Int)) (kd 1) (cz 1) (by omega) _) (cwV 0 X.t (lw_V q221 q222 q223 q47 q224) rfl rfl rfl (by decide +kernel) (pc_rmle (by decide) (by decide))) (pc_preV X hw [3] rfl rfl 7 3 rfl rfl rfl) rfl rfl hl.1 rfl (lv_room (Nat.le_of_ble_eq_true rfl)) dX1_sum_32 ⟨Nat.le_of_ble_eq_true rfl, Nat.le_of_ble_eq_true rfl⟩) rfl rfl rfl rfl (fun _ _ _ => pc_c00) (fun r_8 u_9 H locs hq hw => ?_)
          have hw : pc_S D A s.heap [(h0, .inr (9, [.ref aco, .ref ali, .ref acu, .ref a1, .ref a2, .ref apd, .ref asc, .ref fo, .int (zI (((wn : Nat) : Int))), .int (zI (((bn : Nat) : Int)))])), (ali, .inl (dA 6, 4, .inr (.inr (.inr (.inr lf))))), ((pa 0), .inr (7, [.ref (na 0), .ref (ra 0), .int (zI (((ml 0 : Nat) : Int))), .int (zI (cz 0)), .int (kd 0)])), ((pa 2), .inr (7, [.ref (na 2), .ref (ra 2), .int (zI (((ml 2 : Nat) : Int))), .int (zI (cz 2)), .int (kd 2)])), ((pa 3), .inr (7, [.ref (na 3), .ref (ra 3), .int (zI (((ml 3 : Nat) : Int))), .int (zI (cz 3)), .int (kd 3)])), ((ra 0), .inr (0, [.ref (rb 0), .int (zI (((bl 0 : Nat) : Int))), .int (at9 0)])), ((ra 1), .inr (0, [.ref (rb 1), .int (zI (((bl 1 : Nat) : Int))), .int (at9 1)])), ((ra 2), .inr (0, [.ref (rb 2), .int (zI (((bl 2 : Nat) : Int))), .int (at9 2)])), ((ra 3), .inr (0, [.ref (rb 3), .int (zI (((bl 3 : Nat) : Int))), .int (at9 3)])), ((pa 1), .inr (7, [.ref (na 1), .ref (ra 1), .int (zI (((ml 1 : Nat) : Int))), .int (zI (cz 1)), .int (kd 1)]))] H locs := hw
          subst hq
          have hb7 := b2n_le (decide (cz 1 ≠ -1))
          refine z_if_ne (tgt := 42) X dX1_sum_35 (by decide) (by omega) (fun c_10 => ?_) (fun c_10 => ?_)
          · skip
            have hs7 : decide (cz 1 ≠ -1) = true := by
              cases h : decide (cz 1 ≠ -1) with
              | true => rfl
              | false => rw [h] at c_10; exact absurd rfl c_10
            refine lv_iload_n X.x X.b dX1_sum_42 rfl (lv_at hl 4 rfl) ?_
            refine lv_iload_n X.x X.b dX1_sum_43 rfl (lv_at hl 2 rfl) ?_
            refine z_if_eq (tgt := 58) X dX1_sum_44 (by decide) (by omega) (fun c_11 => ?_) (fun c_11 => ?_)
            · skip
              have hb19 : b1 = false := by
                cases h : b1 with
                | false => rfl
                | true => rw [h] at c_11; exact absurd c_11 (by decide)
              refine lv_aload X.x X.b dX1_sum_58 (lv_at hl 0 rfl) ?_
              refine z_get X hw in_X11 9 rfl rfl 2 (by decide) q166 rfl rfl dX1_sum_60 ?_
              refine z_iadd X dX1_sum_63 ?_
              refine top_i (y := zI (((sumN (if b1 then bl else ml) (fun j => decide (cz j ≠ -1) || !b2) 1) + (ml 1) : Nat) : Int)) (congrArg zI (by omega)) ?_
              refine lv_istore_n (lv' := [(3, .int (zI ((((sumN (if b1 then bl else ml) (fun j => decide (cz j ≠ -1) || !b2) 1) + (ml 1) : Nat) : Int)))), (7, .ref (pa 1)), (0, .ref h0), (1, .int (zI (((b2n b1 : Nat) : Int)))), (2, .int (zI (((b2n b2 : Nat) : Int)))), (4, .ref ali), (5, .int (zI 4)), (6, .int (zI (((1 : Nat) : Int))))]) X.x X.b dX1_sum_64 rfl hl (by decide) rfl (fun ls hl => ?_)
              have hw : pc_S D A s.heap [(h0, .inr (9, [.ref aco, .ref ali, .ref acu, .ref a1, .ref a2, .ref apd, .ref asc, .ref fo, .int (zI (((wn : Nat) : Int))), .int (zI (((bn : Nat) : Int)))])), (ali, .inl (dA 6, 4, .inr (.inr (.inr (.inr lf))))), ((pa 0), .inr (7, [.ref (na 0), .ref (ra 0), .int (zI (((ml 0 : Nat) : Int))), .int (zI (cz 0)), .int (kd 0)])), ((pa 1), .inr (7, [.ref (na 1), .ref (ra 1), .int (zI (((ml 1 : Nat) : Int))), .int (zI (cz 1)), .int (kd 1)])), ((pa 2), .inr (7, [.ref (na 2), .ref (ra 2), .int (zI (((ml 2 : Nat) : Int))), .int (zI (cz 2)), .int (kd 2)])), ((pa 3), .inr (7, [.ref (na 3), .ref (ra 3), .int (zI (((ml 3 : Nat) : Int))), .int (zI (cz 3)), .int (kd 3)])), ((ra 0), .inr (0, [.ref (rb 0), .int (zI (((bl 0 : Nat) : Int))), .int (at9 0)])), ((ra 1), .inr (0, [.ref (rb 1), .int (zI (((bl 1 : Nat) : Int))), .int (at9 1)])), ((ra 2), .inr (0, [.ref (rb 2), .int (zI (((bl 2 : Nat) : Int))), .int (at9 2)])), ((ra 3), .inr (0, [.ref (rb 3), .int (zI (((bl 3 : Nat) : Int))), .int (at9 3)]))] H locs := hw.sub [0, 1, 2, 9, 3, 4, 5, 6, 7, 8] rfl rfl
              refine z_iinc (lv' := [(6, .int (zI (((1 : Nat) : Int) + 1))), (3, .int (zI ((((sumN (if b1 then bl else ml) (fun j => decide (cz j ≠ -1) || !b2) 1) + (ml 1) : Nat) : Int)))), (7, .ref (pa 1)), (0, .ref h0), (1, .int (zI (((b2n b1 : Nat) : Int)))), (2, .int (zI (((b2n b2 : Nat) : Int)))), (4, .ref ali), (5, .int (zI 4))]) X dX1_sum_65 hl (k0 := 7) rfl (by decide) rfl (fun ls hl => ?_)
              refine lv_goto (tgt := 16) X.x X.b dX1_sum_68 (by decide) ?_
              have hl : lv_has ls 8 [(6, .int (zI (((1 : Nat) : Int) + 1))), (3, .int (zI (((sumN (if b1 then bl else ml) (fun j => decide (cz j ≠ -1) || !b2) (1 + 1) : Nat) : Int)))), (7, .ref (pa 1)), (0, .ref h0), (1, .int (zI (((b2n b1 : Nat) : Int)))), (2, .int (zI (((b2n b2 : Nat) : Int)))), (4, .ref ali), (5, .int (zI 4))] := by rw [show (((sumN (if b1 then bl else ml) (fun j => decide (cz j ≠ -1) || !b2) (1 + 1) : Nat) : Int) : Int) = (((sumN (if b1 then bl else ml) (fun j => decide (cz j ≠ -1) || !b2) 1) + (ml 1) : Nat) : Int) from by simp [sumN, hs7, hb19]]; exact hl
              have hl : lv_has ls 8 [(6, .int (zI (((1 + 1 : Nat) : Int)))), (3, .int (zI (((sumN (if b1 then bl else ml) (fun j => decide (cz j ≠ -1) || !b2) (1 + 1) : Nat) : Int)))), (7, .ref (pa 1)), (0, .ref h0), (1, .int (zI (((b2n b1 : Nat) : Int)))), (2, .int (zI (((b2n b2 : Nat) : Int)))), (4, .ref ali), (5, .int (zI 4))] := by rw [show (((1 + 1 : Nat) : Int) : Int) = ((1 : Nat) : Int) + 1 from by omega]; exact hl
              exact ih16  (1 + 1) (by omega) (by omega) H locs hw ls (lv_sub hl [3, 4, 5, 1, 6, 7, 0] rfl)
            · skip
              have hb19 : b1 = true := by
                cases h : b1 with
                | true => rfl
                | false => rw [h] at c_11; exact absurd rfl c_11
              refine lv_aload X.x X.b dX1_sum_47 (lv_at hl 0 rfl) ?_
              refine z_get X hw in_X11 9 rfl rfl 1 (by decide) q163 rfl rfl dX1_sum_49 ?_
              refine z_get X hw in_X10 6 rfl rfl 1 (by decide) q142 rfl rfl dX1_sum_52 ?_
              refine lv_goto (tgt := 63) X.x X.b dX1_sum_55 (by decide) ?_
              refine z_iadd X dX1_sum_63 ?_
              refine top_i (y := zI (((sumN (if b1 then bl else ml) (fun j => decide (cz j ≠ -1) || !b2) 1) + (bl 1) : Nat) : Int)) (congrArg zI (by omega)) ?_
              refine lv_istore_n (lv' := [(3, .int (zI ((((sumN (if b1 then bl else ml) (fun j => decide (cz j ≠ -1) || !b2) 1) + (bl 1) : Nat) : Int)))), (7, .ref (pa 1)), (0, .ref h0), (1, .int (zI (((b2n b1 : Nat) : Int)))), (2, .int (zI (((b2n b2 : Nat) : Int)))), (4, .ref ali), (5, .int (zI 4)), (6, .int (zI (((1 : Nat) : Int))))]) X.x X.b dX1_sum_64 rfl hl (by decide) rfl (fun ls hl => ?_)
              have hw : pc_S D A s.heap [(h0, .inr (9, [.ref aco, .ref ali, .ref acu, .ref a1, .ref a2, .ref apd, .ref asc, .ref fo, .int (zI (((wn : Nat) : Int))), .int (zI (((bn : Nat) : Int)))])), (ali, .inl (dA 6, 4, .inr (.inr (.inr (.inr lf))))), ((pa 0), .inr (7, [.ref (na 0), .ref (ra 0), .int (zI (((ml 0 : Nat) : Int))), .int (zI (cz 0)), .int (kd 0)])), ((pa 1), .inr (7, [.ref (na 1), .ref (ra 1), .int (zI (((ml 1 : Nat) : Int))), .int (zI (cz 1)), .int (kd 1)])), ((pa 2), .inr (7, [.ref (na 2), .ref (ra 2), .int (zI (((ml 2 : Nat) : Int))), .int (zI (cz 2)), .int (kd 2)])), ((pa 3), .inr (7, [.ref (na 3), .ref (ra 3), .int (zI (((ml 3 : Nat) : Int))), .int (zI (cz 3)), .int (kd 3)])), ((ra 0), .inr (0, [.ref (rb 0), .int (zI (((bl 0 : Nat) : Int))), .int (at9 0)])), ((ra 1), .inr (0, [.ref (rb 1), .int (zI (((bl 1 : Nat) : Int))), .int (at9 1)])), ((ra 2), .inr (0, [.ref (rb 2), .int (zI (((bl 2 : Nat) : Int))), .int (at9 2)])), ((ra 3), .inr (0, [.ref (rb 3), .int (zI (((bl 3 : Nat) : Int))), .int (at9 3)]))] H locs := hw.sub [0, 1, 2, 9, 3, 4, 5, 6, 7, 8] rfl rfl
              refine z_iinc (lv' := [(6, .int (zI (((1 : Nat) : Int) + 1))), (3, .int (zI ((((sumN (if b1 then bl else ml) (fun j => decide (cz j ≠ -1) || !b2) 1) + (bl 1) : Nat) : Int)))), (7, .ref (pa 1)), (0, .ref h0), (1, .int (zI (((b2n b1 : Nat) : Int)))), (2, .int (zI (((b2n b2 : Nat) : Int)))), (4, .ref ali), (5, .int (zI 4))]) X dX1_sum_65 hl (k0 := 7) rfl (by decide) rfl (fun ls hl => ?_)
              refine lv_goto (tgt := 16) X.x X.b dX1_sum_68 (by decide) ?_
              have hl : lv_has ls 8 [(6, .int (zI (((1 : Nat) : Int) + 1))), (3, .int (zI (((sumN (if b1 then bl else ml) (fun j => decide (cz j ≠ -1) || !b2) (1 + 1) : Nat) : Int)))), (7, .ref (pa 1)), (0, .ref h0), (1, .int (zI (((b2n b1 : Nat) : Int)))), (2, .int (zI (((b2n b2 : Nat) : Int)))), (4, .ref ali), (5, .int (zI 4))] := by rw [show (((sumN (if b1 then bl else ml) (fun j => decide (cz j ≠ -1) || !b2) (1 + 1) : Nat) : Int) : Int) = (((sumN (if b1 then bl else ml) (fun j => decide (cz j ≠ -1) || !b2) 1) + (bl 1) : Nat) : Int) from by simp [sumN, hs7, hb19]]; exact hl
              have hl : lv_has ls 8 [(6, .int (zI (((1 + 1 : Nat) : Int)))), (3, .int (zI (((sumN (if b1 then bl else ml) (fun j => decide (cz j ≠ -1) || !b2) (1 + 1) : Nat) : Int)))), (7, .ref (pa 1)), (0, .ref h0), (1, .int (zI (((b2n b1 : Nat) : Int)))), (2, .int (zI (((b2n b2 : Nat) : Int)))), (4, .ref ali), (5, .int (zI 4))] := by rw [show (((1 + 1 : Nat) : Int) : Int) = ((1 : Nat) : Int) + 1 from by omega]; exact hl
              exact ih16  (1 + 1) (by omega) (by omega) H locs hw ls (lv_sub hl [3, 4, 5, 1, 6, 7, 0] rfl)
          · skip
            have hs7 : decide (cz 1 ≠ -1) = false := by
              cases h : decide (cz 1 ≠ -1) with
              | false => rfl
              | true => rw [h] at c_10; exact absurd c_10 (by decide)
            refine lv_iload_n X.x X.b dX1_sum_38 rfl (lv_at hl 3 rfl) ?_
            refine z_if_ne (tgt := 65) X dX1_sum_39 (by decide) (by omega) (fun c_12 => ?_) (fun c_12 => ?_)
            · skip
              have hb29 : b2 = true := by
                cases h : b2 with
                | true => rfl
                | false => rw [h] at c_12; exact absurd rfl c_12
              have hw : pc_S D A s.heap [(h0, .inr (9, [.ref aco, .ref ali, .ref acu, .ref a1, .ref a2, .ref apd, .ref asc, .ref fo, .int (zI (((wn : Nat) : Int))), .int (zI (((bn : Nat) : Int)))])), (ali, .inl (dA 6, 4, .inr (.inr (.inr (.inr lf))))), ((pa 0), .inr (7, [.ref (na 0), .ref (ra 0), .int (zI (((ml 0 : Nat) : Int))), .int (zI (cz 0)), .int (kd 0)])), ((pa 1), .inr (7, [.ref (na 1), .ref (ra 1), .int (zI (((ml 1 : Nat) : Int))), .int (zI (cz 1)), .int (kd 1)])), ((pa 2), .inr (7, [.ref (na 2), .ref (ra 2), .int (zI (((ml 2 : Nat) : Int))), .int (zI (cz 2)), .int (kd 2)])), ((pa 3), .inr (7, [.ref (na 3), .ref (ra 3), .int (zI (((ml 3 : Nat) : Int))), .int (zI (cz 3)), .int (kd 3)])), ((ra 0), .inr (0, [.ref (rb 0), .int (zI (((bl 0 : Nat) : Int))), .int (at9 0)])), ((ra 1), .inr (0, [.ref (rb 1), .int (zI (((bl 1 : Nat) : Int))), .int (at9 1)])), ((ra 2), .inr (0, [.ref (rb 2), .int (zI (((bl 2 : Nat) : Int))), .int (at9 2)])), ((ra 3), .inr (0, [.ref (rb 3), .int (zI (((bl 3 : Nat) : Int))), .int (at9 3)]))] H locs := hw.sub [0, 1, 2, 9, 3, 4, 5, 6, 7, 8] rfl rfl
              refine z_iinc (lv' := [(6, .int (zI (((1 : Nat) : Int) + 1))), (7, .ref (pa 1)), (0, .ref h0), (1, .int (zI (((b2n b1 : Nat) : Int)))), (2, .int (zI (((b2n b2 : Nat) : Int)))), (3, .int (zI (((sumN (if b1 then bl else ml) (fun j => decide (cz j ≠ -1) || !b2) 1 : Nat) : Int)))), (4, .ref ali), (5, .int (zI 4))]) X dX1_sum_65 hl (k0 := 7) rfl (by decide) rfl (fun ls hl => ?_)
              refine lv_goto (tgt := 16) X.x X.b dX1_sum_68 (by decide) ?_
              have hl : lv_has ls 8 [(6, .int (zI (((1 : Nat) : Int) + 1))), (7, .ref (pa 1)), (0, .ref h0), (1, .int (zI (((b2n b1 : Nat) : Int)))), (2, .int (zI (((b2n b2 : Nat) : Int)))), (3, .int (zI (((sumN (if b1 then bl else ml) (fun j => decide (cz j ≠ -1) || !b2) (1 + 1) : Nat) : Int)))), (4, .ref ali), (5, .int (zI 4))] := by rw [show (((sumN (if b1 then bl else ml) (fun j => decide (cz j ≠ -1) || !b2) (1 + 1) : Nat) : Int) : Int) = ((sumN (if b1 then bl else ml) (fun j => decide (cz j ≠ -1) || !b2) 1 : Nat) : Int) from by simp [sumN, hs7, hb29]]; exact hl
              have hl : lv_has ls 8 [(6, .int (zI (((1 + 1 : Nat) : Int)))), (7, .ref (pa 1)), (0, .ref h0), (1, .int (zI (((b2n b1 : Nat) : Int)))), (2, .int (zI (((b2n b2 : Nat) : Int)))), (3, .int (zI (((sumN (if b1 then bl else ml) (fun j => decide (cz j ≠ -1) || !b2) (1 + 1) : Nat) : Int)))), (4, .ref ali), (5, .int (zI 4))] := by rw [show (((1 + 1 : Nat) : Int) : Int) = ((1 : Nat) : Int) + 1 from by omega]; exact hl
              exact ih16  (1 + 1) (by omega) (by omega) H locs hw ls (lv_sub hl [2, 3, 4, 5, 6, 7, 0] rfl)
            · skip
              have hb29 : b2 = false := by
                cases h : b2 with
                | false => rfl
                | true => rw [h] at c_12; exact absurd c_12 (by decide)
              refine lv_iload_n X.x X.b dX1_sum_42 rfl (lv_at hl 4 rfl) ?_
              refine lv_iload_n X.x X.b dX1_sum_43 rfl (lv_at hl 2 rfl) ?_
              refine z_if_eq (tgt := 58) X dX1_sum_44 (by decide) (by omega) (fun c_13 => ?_) (fun c_13 => ?_)
              · skip
                have hb19 : b1 = false := by
                  cases h : b1 with
                  | false => rfl
                  | true => rw [h] at c_13; exact absurd c_13 (by decide)
                refine lv_aload X.x X.b dX1_sum_58 (lv_at hl 0 rfl) ?_
                refine z_get X hw in_X11 9 rfl rfl 2 (by decide) q166 rfl rfl dX1_sum_60 ?_
                refine z_iadd X dX1_sum_63 ?_
                refine top_i (y := zI (((sumN (if b1 then bl else ml) (fun j => decide (cz j ≠ -1) || !b2) 1) + (ml 1) : Nat) : Int)) (congrArg zI (by omega)) ?_
                refine lv_istore_n (lv' := [(3, .int (zI ((((sumN (if b1 then bl else ml) (fun j => decide (cz j ≠ -1) || !b2) 1) + (ml 1) : Nat) : Int)))), (7, .ref (pa 1)), (0, .ref h0), (1, .int (zI (((b2n b1 : Nat) : Int)))), (2, .int (zI (((b2n b2 : Nat) : Int)))), (4, .ref ali), (5, .int (zI 4)), (6, .int (zI (((1 : Nat) : Int))))]) X.x X.b dX1_sum_64 rfl hl (by decide) rfl (fun ls hl => ?_)
                have hw : pc_S D A s.heap [(h0, .inr (9, [.ref aco, .ref ali, .ref acu, .ref a1, .ref a2, .ref apd, .ref asc, .ref fo, .int (zI (((wn : Nat) : Int))), .int (zI (((bn : Nat) : Int)))])), (ali, .inl (dA 6, 4, .inr (.inr (.inr (.inr lf))))), ((pa 0), .inr (7, [.ref (na 0), .ref (ra 0), .int (zI (((ml 0 : Nat) : Int))), .int (zI (cz 0)), .int (kd 0)])), ((pa 1), .inr (7, [.ref (na 1), .ref (ra 1), .int (zI (((ml 1 : Nat) : Int))), .int (zI (cz 1)), .int (kd 1)])), ((pa 2), .inr (7, [.ref (na 2), .ref (ra 2), .int (zI (((ml 2 : Nat) : Int))), .int (zI (cz 2)), .int (kd 2)])), ((pa 3), .inr (7, [.ref (na 3), .ref (ra 3), .int (zI (((ml 3 : Nat) : Int))), .int (zI (cz 3)), .int (kd 3)])), ((ra 0), .inr (0, [.ref (rb 0), .int (zI (((bl 0 : Nat) : Int))), .int (at9 0)])), ((ra 1), .inr (0, [.ref (rb 1), .int (zI (((bl 1 : Nat) : Int))), .int (at9 1)])), ((ra 2), .inr (0, [.ref (rb 2), .int (zI (((bl 2 : Nat) : Int))), .int (at9 2)])), ((ra 3), .inr (0, [.ref (rb 3), .int (zI (((bl 3 : Nat) : Int))), .int (at9 3)]))] H locs := hw.sub [0, 1, 2, 9, 3, 4, 5, 6, 7, 8] rfl rfl
                refine z_iinc (lv' := [(6, .int (zI (((1 : Nat) : Int) + 1))), (3, .int (zI ((((sumN (if b1 then bl else ml) (fun j => decide (cz j ≠ -1) || !b2) 1) + (ml 1) : Nat) : Int)))), (7, .ref (pa 1)), (0, .ref h0), (1, .int (zI (((b2n b1 : Nat) : Int)))), (2, .int (zI (((b2n b2 : Nat) : Int)))), (4, .ref ali), (5, .int (zI 4))]) X dX1_sum_65 hl (k0 := 7) rfl (by decide) rfl (fun ls hl => ?_)
                refine lv_goto (tgt := 16) X.x X.b dX1_sum_68 (by decide) ?_
                have hl : lv_has ls 8 [(6, .int (zI (((1 : Nat) : Int) + 1))), (3, .int (zI (((sumN (if b1 then bl else ml) (fun j => decide (cz j ≠ -1) || !b2) (1 + 1) : Nat) : Int)))), (7, .ref (pa 1)), (0, .ref h0), (1, .int (zI (((b2n b1 : Nat) : Int)))), (2, .int (zI (((b2n b2 : Nat) : Int)))), (4, .ref ali), (5, .int (zI 4))] := by rw [show (((sumN (if b1 then bl else ml) (fun j => decide (cz j ≠ -1) || !b2) (1 + 1) : Nat) : Int) : Int) = (((sumN (if b1 then bl else ml) (fun j => decide (cz j ≠ -1) || !b2) 1) + (ml 1) : Nat) : Int) from by simp [sumN, hs7, hb29, hb19]]; exact hl
                have hl : lv_has ls 8 [(6, .int (zI (((1 + 1 : Nat) : Int)))), (3, .int (zI (((sumN (if b1 then bl else ml) (fun j => decide (cz j ≠ -1) || !b2) (1 + 1) : Nat) : Int)))), (7, .ref (pa 1)), (0, .ref h0), (1, .int (zI (((b2n b1 : Nat) : Int)))), (2, .int (zI (((b2n b2 : Nat) : Int)))), (4, .ref ali), (5, .int (zI 4))] := by rw [show (((1 + 1 : Nat) : Int) : Int) = ((1 : Nat) : Int) + 1 from by omega]; exact hl
                exact ih16  (1 + 1) (by omega) (by omega) H locs hw ls (lv_sub hl [3, 4, 5, 1, 6, 7, 0] rfl)
              · skip
                have hb19 : b1 = true := by
                  cases h : b1 with
                  | true => rfl
                  | false => rw [h] at c_13; exact absurd rfl c_13
                refine lv_aload X.x X.b dX1_sum_47 (lv_at hl 0 rfl) ?_
                refine z_get X hw in_X11 9 rfl rfl 1 (by decide) q163 rfl rfl dX1_sum_49 ?_
                refine z_get X hw in_X10 6 rfl rfl 1 (by decide) q142 rfl rfl dX1_sum_52 ?_
                refine lv_goto (tgt := 63) X.x X.b dX1_sum_55 (by decide) ?_
                refine z_iadd X dX1_sum_63 ?_
                refine top_i (y := zI (((sumN (if b1 then bl else ml) (fun j => decide (cz j ≠ -1) || !b2) 1) + (bl 1) : Nat) : Int)) (congrArg zI (by omega)) ?_
                refine lv_istore_n (lv' := [(3, .int (zI ((((sumN (if b1 then bl else ml) (fun j => decide (cz j ≠ -1) || !b2) 1) + (bl 1) : Nat) : Int)))), (7, .ref (pa 1)), (0, .ref h0), (1, .int (zI (((b2n b1 : Nat) : Int)))), (2, .int (zI (((b2n b2 : Nat) : Int)))), (4, .ref ali), (5, .int (zI 4)), (6, .int (zI (((1 : Nat) : Int))))]) X.x X.b dX1_sum_64 rfl hl (by decide) rfl (fun ls hl => ?_)
                have hw : pc_S D A s.heap [(h0, .inr (9, [.ref aco, .ref ali, .ref acu, .ref a1, .ref a2, .ref apd, .ref asc, .ref fo, .int (zI (((wn : Nat) : Int))), .int (zI (((bn : Nat) : Int)))])), (ali, .inl (dA 6, 4, .inr (.inr (.inr (.inr lf))))), ((pa 0), .inr (7, [.ref (na 0), .ref (ra 0), .int (zI (((ml 0 : Nat) : Int))), .int (zI (cz 0)), .int (kd 0)])), ((pa 1), .inr (7, [.ref (na 1), .ref (ra 1), .int (zI (((ml 1 : Nat) : Int))), .int (zI (cz 1)), .int (kd 1)])), ((pa 2), .inr (7, [.ref (na 2), .ref (ra 2), .int (zI (((ml 2 : Nat) : Int))), .int (zI (cz 2)), .int (kd 2)])), ((pa 3), .inr (7, [.ref (na 3), .ref (ra 3), .int (zI (((ml 3 : Nat) : Int))), .int (zI (cz 3)), .int (kd 3)])), ((ra 0), .inr (0, [.ref (rb 0), .int (zI (((bl 0 : Nat) : Int))), .int (at9 0)])), ((ra 1), .inr (0, [.ref (rb 1), .int (zI (((bl 1 : Nat) : Int))), .int (at9 1)])), ((ra 2), .inr (0, [.ref (rb 2), .int (zI (((bl 2 : Nat) : Int))), .int (at9 2)])), ((ra 3), .inr (0, [.ref (rb 3), .int (zI (((bl 3 : Nat) : Int))), .int (at9 3)]))] H locs := hw.sub [0, 1, 2, 9, 3, 4, 5, 6, 7, 8] rfl rfl
                refine z_iinc (lv' := [(6, .int (zI (((1 : Nat) : Int) + 1))), (3, .int (zI ((((sumN (if b1 then bl else ml) (fun j => decide (cz j ≠ -1) || !b2) 1) + (bl 1) : Nat) : Int)))), (7, .ref (pa 1)), (0, .ref h0), (1, .int (zI (((b2n b1 : Nat) : Int)))), (2, .int (zI (((b2n b2 : Nat) : Int)))), (4, .ref ali), (5, .int (zI 4))]) X dX1_sum_65 hl (k0 := 7) rfl (by decide) rfl (fun ls hl => ?_)
                refine lv_goto (tgt := 16) X.x X.b dX1_sum_68 (by decide) ?_
                have hl : lv_has ls 8 [(6, .int (zI (((1 : Nat) : Int) + 1))), (3, .int (zI (((sumN (if b1 then bl else ml) (fun j => decide (cz j ≠ -1) || !b2) (1 + 1) : Nat) : Int)))), (7, .ref (pa 1)), (0, .ref h0), (1, .int (zI (((b2n b1 : Nat) : Int)))), (2, .int (zI (((b2n b2 : Nat) : Int)))), (4, .ref ali), (5, .int (zI 4))] := by rw [show (((sumN (if b1 then bl else ml) (fun j => decide (cz j ≠ -1) || !b2) (1 + 1) : Nat) : Int) : Int) = (((sumN (if b1 then bl else ml) (fun j => decide (cz j ≠ -1) || !b2) 1) + (bl 1) : Nat) : Int) from by simp [sumN, hs7, hb29, hb19]]; exact hl
                have hl : lv_has ls 8 [(6, .int (zI (((1 + 1 : Nat) : Int)))), (3, .int (zI (((sumN (if b1 then bl else ml) (fun j => decide (cz j ≠ -1) || !b2) (1 + 1) : Nat) : Int)))), (7, .ref (pa 1)), (0, .ref h0), (1, .int (zI (((b2n b1 : Nat) : Int)))), (2, .int (zI (((b2n b2 : Nat) : Int)))), (4, .ref ali), (5, .int (zI 4))] := by rw [show (((1 + 1 : Nat) : Int) : Int) = ((1 : Nat) : Int) + 1 from by omega]; exact hl
                exact ih16  (1 + 1) (by omega) (by omega) H locs hw ls (lv_sub hl [3, 4, 5, 1, 6, 7, 0] rfl)
        · skip
          have hcdj := hcd 2 (by decide)
          have hmlj := hml 2 (by decide)
          have hblj := hbl 2 (by decide)
          refine lv_aload X.x X.b dX1_sum_23 (lv_at hl 4 rfl) ?_
          refine lv_iload X.x X.b dX1_sum_25 (lv_at hl 6 rfl) ?_
          refine z_aald X hw 1 6 2 rfl rfl (by decide) (by omega) (v := .ref (pa 2)) (congrArg va_rf (hlf 2 (by decide))) dX1_sum_27 ?_
          refine lv_astore (lv' := [(7, .ref (pa 2)), (0, .ref h0), (1, .int (zI (((b2n b1 : Nat) : Int)))), (2, .int (zI (((b2n b2 : Nat) : Int)))), (3, .int (zI (((sumN (if b1 then bl else ml) (fun j => decide (cz j ≠ -1) || !b2) 2 : Nat) : Int)))), (4, .ref ali), (5, .int (zI 4)), (6, .int (zI (((2 : Nat) : Int))))]) X.x X.b dX1_sum_28 hl (by decide) rfl (fun ls hl => ?_)
          refine lv_aload X.x X.b dX1_sum_30 (lv_at hl 0 rfl) ?_
          refine cv_i (c1 := 0) (s1 := 0) X hw [4] [0, 1, 2, 3, 5, 6, 7, 8, 9] (wr := [(h0, .inr (9, [.ref aco, .ref ali, .ref acu, .ref a1, .ref a2, .ref apd, .ref asc, .ref fo, .int (zI (((wn : Nat) : Int))), .int (zI (((bn : Nat) : Int)))])), (ali, .inl (dA 6, 4, .inr (.inr (.inr (.inr lf))))), ((pa 0), .inr (7, [.ref (na 0), .ref (ra 0), .int (zI (((ml 0 : Nat) : Int))), .int (zI (cz 0)), .int (kd 0)])), ((pa 1), .inr (7, [.ref (na 1), .ref (ra 1), .int (zI (((ml 1 : Nat) : Int))), .int (zI (cz 1)), .int (kd 1)])), ((pa 3), .inr (7, [.ref (na 3), .ref (ra 3), .int (zI (((ml 3 : Nat) : Int))), .int (zI (cz 3)), .int (kd 3)])), ((ra 0), .inr (0, [.ref (rb 0), .int (zI (((bl 0 : Nat) : Int))), .int (at9 0)])), ((ra 1), .inr (0, [.ref (rb 1), .int (zI (((bl 1 : Nat) : Int))), .int (at9 1)])), ((ra 2), .inr (0, [.ref (rb 2), .int (zI (((bl 2 : Nat) : Int))), .int (at9 2)])), ((ra 3), .inr (0, [.ref (rb 3), .int (zI (((bl 3 : Nat) : Int))), .int (at9 3)]))]) (va_runV (As := []) (rest := []) X.fix (m_sealed l hst D dA (pa 2) (na 2) (ra 2) (zI ((ml 2 : Nat) : Int)) (kd 2) (cz 2) (by omega) _) (cwV 0 X.t (lw_V q221 q222 q223 q47 q224) rfl rfl rfl (by decide +kernel) (pc_rmle (by decide) (by decide))) (pc_preV X hw [4] rfl rfl 7 4 rfl rfl rfl) rfl rfl hl.1 rfl (lv_room (Nat.le_of_ble_eq_true rfl)) dX1_sum_32 ⟨Nat.le_of_ble_eq_true rfl, Nat.le_of_ble_eq_true rfl⟩) rfl rfl rfl rfl (fun _ _ _ => pc_c00) (fun r_14 u_15 H locs hq hw => ?_)
          have hw : pc_S D A s.heap [(h0, .inr (9, [.ref aco, .ref ali, .ref acu, .ref a1, .ref a2, .ref apd, .ref asc, .ref fo, .int (zI (((wn : Nat) : Int))), .int (zI (((bn : Nat) : Int)))])), (ali, .inl (dA 6, 4, .inr (.inr (.inr (.inr lf))))), ((pa 0), .inr (7, [.ref (na 0), .ref (ra 0), .int (zI (((ml 0 : Nat) : Int))), .int (zI (cz 0)), .int (kd 0)])), ((pa 1), .inr (7, [.ref (na 1), .ref (ra 1), .int (zI (((ml 1 : Nat) : Int))), .int (zI (cz 1)), .int (kd 1)])), ((pa 3), .inr (7, [.ref (na 3), .ref (ra 3), .int (zI (((ml 3 : Nat) : Int))), .int (zI (cz 3)), .int (kd 3)])), ((ra 0), .inr (0, [.ref (rb 0), .int (zI (((bl 0 : Nat) : Int))), .int (at9 0)])), ((ra 1), .inr (0, [.ref (rb 1), .int (zI (((bl 1 : Nat) : Int))), .int (at9 1)])), ((ra 2), .inr (0, [.ref (rb 2), .int (zI (((bl 2 : Nat) : Int))), .int (at9 2)])), ((ra 3), .inr (0, [.ref (rb 3), .int (zI (((bl 3 : Nat) : Int))), .int (at9 3)])), ((pa 2), .inr (7, [.ref (na 2), .ref (ra 2), .int (zI (((ml 2 : Nat) : Int))), .int (zI (cz 2)), .int (kd 2)]))] H locs := hw
          subst hq
          have hb7 := b2n_le (decide (cz 2 ≠ -1))
          refine z_if_ne (tgt := 42) X dX1_sum_35 (by decide) (by omega) (fun c_16 => ?_) (fun c_16 => ?_)
          · skip
            have hs7 : decide (cz 2 ≠ -1) = true := by
              cases h : decide (cz 2 ≠ -1) with
              | true => rfl
              | false => rw [h] at c_16; exact absurd rfl c_16
            refine lv_iload_n X.x X.b dX1_sum_42 rfl (lv_at hl 4 rfl) ?_
            refine lv_iload_n X.x X.b dX1_sum_43 rfl (lv_at hl 2 rfl) ?_
            refine z_if_eq (tgt := 58) X dX1_sum_44 (by decide) (by omega) (fun c_17 => ?_) (fun c_17 => ?_)
            · skip
              have hb19 : b1 = false := by
                cases h : b1 with
                | false => rfl
                | true => rw [h] at c_17; exact absurd c_17 (by decide)
              refine lv_aload X.x X.b dX1_sum_58 (lv_at hl 0 rfl) ?_
              refine z_get X hw in_X11 9 rfl rfl 2 (by decide) q166 rfl rfl dX1_sum_60 ?_
              refine z_iadd X dX1_sum_63 ?_
              refine top_i (y := zI (((sumN (if b1 then bl else ml) (fun j => decide (cz j ≠ -1) || !b2) 2) + (ml 2) : Nat) : Int)) (congrArg zI (by omega)) ?_
              refine lv_istore_n (lv' := [(3, .int (zI ((((sumN (if b1 then bl else ml) (fun j => decide (cz j ≠ -1) || !b2) 2) + (ml 2) : Nat) : Int)))), (7, .ref (pa 2)), (0, .ref h0), (1, .int (zI (((b2n b1 : Nat) : Int)))), (2, .int (zI (((b2n b2 : Nat) : Int)))), (4, .ref ali), (5, .int (zI 4)), (6, .int (zI (((2 : Nat) : Int))))]) X.x X.b dX1_sum_64 rfl hl (by decide) rfl (fun ls hl => ?_)
              have hw : pc_S D A s.heap [(h0, .inr (9, [.ref aco, .ref ali, .ref acu, .ref a1, .ref a2, .ref apd, .ref asc, .ref fo, .int (zI (((wn : Nat) : Int))), .int (zI (((bn : Nat) : Int)))])), (ali, .inl (dA 6, 4, .inr (.inr (.inr (.inr lf))))), ((pa 0), .inr (7, [.ref (na 0), .ref (ra 0), .int (zI (((ml 0 : Nat) : Int))), .int (zI (cz 0)), .int (kd 0)])), ((pa 1), .inr (7, [.ref (na 1), .ref (ra 1), .int (zI (((ml 1 : Nat) : Int))), .int (zI (cz 1)), .int (kd 1)])), ((pa 2), .inr (7, [.ref (na 2), .ref (ra 2), .int (zI (((ml 2 : Nat) : Int))), .int (zI (cz 2)), .int (kd 2)])), ((pa 3), .inr (7, [.ref (na 3), .ref (ra 3), .int (zI (((ml 3 : Nat) : Int))), .int (zI (cz 3)), .int (kd 3)])), ((ra 0), .inr (0, [.ref (rb 0), .int (zI (((bl 0 : Nat) : Int))), .int (at9 0)])), ((ra 1), .inr (0, [.ref (rb 1), .int (zI (((bl 1 : Nat) : Int))), .int (at9 1)])), ((ra 2), .inr (0, [.ref (rb 2), .int (zI (((bl 2 : Nat) : Int))), .int (at9 2)])), ((ra 3), .inr (0, [.ref (rb 3), .int (zI (((bl 3 : Nat) : Int))), .int (at9 3)]))] H locs := hw.sub [0, 1, 2, 3, 9, 4, 5, 6, 7, 8] rfl rfl
              refine z_iinc (lv' := [(6, .int (zI (((2 : Nat) : Int) + 1))), (3, .int (zI ((((sumN (if b1 then bl else ml) (fun j => decide (cz j ≠ -1) || !b2) 2) + (ml 2) : Nat) : Int)))), (7, .ref (pa 2)), (0, .ref h0), (1, .int (zI (((b2n b1 : Nat) : Int)))), (2, .int (zI (((b2n b2 : Nat) : Int)))), (4, .ref ali), (5, .int (zI 4))]) X dX1_sum_65 hl (k0 := 7) rfl (by decide) rfl (fun ls hl => ?_)
              refine lv_goto (tgt := 16) X.x X.b dX1_sum_68 (by decide) ?_
              have hl : lv_has ls 8 [(6, .int (zI (((2 : Nat) : Int) + 1))), (3, .int (zI (((sumN (if b1 then bl else ml) (fun j => decide (cz j ≠ -1) || !b2) (2 + 1) : Nat) : Int)))), (7, .ref (pa 2)), (0, .ref h0), (1, .int (zI (((b2n b1 : Nat) : Int)))), (2, .int (zI (((b2n b2 : Nat) : Int)))), (4, .ref ali), (5, .int (zI 4))] := by rw [show (((sumN (if b1 then bl else ml) (fun j => decide (cz j ≠ -1) || !b2) (2 + 1) : Nat) : Int) : Int) = (((sumN (if b1 then bl else ml) (fun j => decide (cz j ≠ -1) || !b2) 2) + (ml 2) : Nat) : Int) from by simp [sumN, hs7, hb19]]; exact hl
              have hl : lv_has ls 8 [(6, .int (zI (((2 + 1 : Nat) : Int)))), (3, .int (zI (((sumN (if b1 then bl else ml) (fun j => decide (cz j ≠ -1) || !b2) (2 + 1) : Nat) : Int)))), (7, .ref (pa 2)), (0, .ref h0), (1, .int (zI (((b2n b1 : Nat) : Int)))), (2, .int (zI (((b2n b2 : Nat) : Int)))), (4, .ref ali), (5, .int (zI 4))] := by rw [show (((2 + 1 : Nat) : Int) : Int) = ((2 : Nat) : Int) + 1 from by omega]; exact hl
              exact ih16  (2 + 1) (by omega) (by omega) H locs hw ls (lv_sub hl [3, 4, 5, 1, 6, 7, 0] rfl)
            · skip
              have hb19 : b1 = true := by
                cases h : b1 with
                | true => rfl
                | false => rw [h] at c_17; exact absurd rfl c_17
              refine lv_aload X.x X.b dX1_sum_47 (lv_at hl 0 rfl) ?_
              refine z_get X hw in_X11 9 rfl rfl 1 (by decide) q163 rfl rfl dX1_sum_49 ?_
              refine z_get X hw in_X10 7 rfl rfl 1 (by decide) q142 rfl rfl dX1_sum_52 ?_
              refine lv_goto (tgt := 63) X.x X.b dX1_sum_55 (by decide) ?_
              refine z_iadd X dX1_sum_63 ?_
              refine top_i (y := zI (((sumN (if b1 then bl else ml) (fun j => decide (cz j ≠ -1) || !b2) 2) + (bl 2) : Nat) : Int)) (congrArg zI (by omega)) ?_
              refine lv_istore_n (lv' := [(3, .int (zI ((((sumN (if b1 then bl else ml) (fun j => decide (cz j ≠ -1) || !b2) 2) + (bl 2) : Nat) : Int)))), (7, .ref (pa 2)), (0, .ref h0), (1, .int (zI (((b2n b1 : Nat) : Int)))), (2, .int (zI (((b2n b2 : Nat) : Int)))), (4, .ref ali), (5, .int (zI 4)), (6, .int (zI (((2 : Nat) : Int))))]) X.x X.b dX1_sum_64 rfl hl (by decide) rfl (fun ls hl => ?_)
              have hw : pc_S D A s.heap [(h0, .inr (9, [.ref aco, .ref ali, .ref acu, .ref a1, .ref a2, .ref apd, .ref asc, .ref fo, .int (zI (((wn : Nat) : Int))), .int (zI (((bn : Nat) : Int)))])), (ali, .inl (dA 6, 4, .inr (.inr (.inr (.inr lf))))), ((pa 0), .inr (7, [.ref (na 0), .ref (ra 0), .int (zI (((ml 0 : Nat) : Int))), .int (zI (cz 0)), .int (kd 0)])), ((pa 1), .inr (7, [.ref (na 1), .ref (ra 1), .int (zI (((ml 1 : Nat) : Int))), .int (zI (cz 1)), .int (kd 1)])), ((pa 2), .inr (7, [.ref (na 2), .ref (ra 2), .int (zI (((ml 2 : Nat) : Int))), .int (zI (cz 2)), .int (kd 2)])), ((pa 3), .inr (7, [.ref (na 3), .ref (ra 3), .int (zI (((ml 3 : Nat) : Int))), .int (zI (cz 3)), .int (kd 3)])), ((ra 0), .inr (0, [.ref (rb 0), .int (zI (((bl 0 : Nat) : Int))), .int (at9 0)])), ((ra 1), .inr (0, [.ref (rb 1), .int (zI (((bl 1 : Nat) : Int))), .int (at9 1)])), ((ra 2), .inr (0, [.ref (rb 2), .int (zI (((bl 2 : Nat) : Int))), .int (at9 2)])), ((ra 3), .inr (0, [.ref (rb 3), .int (zI (((bl 3 : Nat) : Int))), .int (at9 3)]))] H locs := hw.sub [0, 1, 2, 3, 9, 4, 5, 6, 7, 8] rfl rfl
              refine z_iinc (lv' := [(6, .int (zI (((2 : Nat) : Int) + 1))), (3, .int (zI ((((sumN (if b1 then bl else ml) (fun j => decide (cz j ≠ -1) || !b2) 2) + (bl 2) : Nat) : Int)))), (7, .ref (pa 2)), (0, .ref h0), (1, .int (zI (((b2n b1 : Nat) : Int)))), (2, .int (zI (((b2n b2 : Nat) : Int)))), (4, .ref ali), (5, .int (zI 4))]) X dX1_sum_65 hl (k0 := 7) rfl (by decide) rfl (fun ls hl => ?_)
              refine lv_goto (tgt := 16) X.x X.b dX1_sum_68 (by decide) ?_
              have hl : lv_has ls 8 [(6, .int (zI (((2 : Nat) : Int) + 1))), (3, .int (zI (((sumN (if b1 then bl else ml) (fun j => decide (cz j ≠ -1) || !b2) (2 + 1) : Nat) : Int)))), (7, .ref (pa 2)), (0, .ref h0), (1, .int (zI (((b2n b1 : Nat) : Int)))), (2, .int (zI (((b2n b2 : Nat) : Int)))), (4, .ref ali), (5, .int (zI 4))] := by rw [show (((sumN (if b1 then bl else ml) (fun j => decide (cz j ≠ -1) || !b2) (2 + 1) : Nat) : Int) : Int) = (((sumN (if b1 then bl else ml) (fun j => decide (cz j ≠ -1) || !b2) 2) + (bl 2) : Nat) : Int) from by simp [sumN, hs7, hb19]]; exact hl
              have hl : lv_has ls 8 [(6, .int (zI (((2 + 1 : Nat) : Int)))), (3, .int (zI (((sumN (if b1 then bl else ml) (fun j => decide (cz j ≠ -1) || !b2) (2 + 1) : Nat) : Int)))), (7, .ref (pa 2)), (0, .ref h0), (1, .int (zI (((b2n b1 : Nat) : Int)))), (2, .int (zI (((b2n b2 : Nat) : Int)))), (4, .ref ali), (5, .int (zI 4))] := by rw [show (((2 + 1 : Nat) : Int) : Int) = ((2 : Nat) : Int) + 1 from by omega]; exact hl
              exact ih16  (2 + 1) (by omega) (by omega) H locs hw ls (lv_sub hl [3, 4, 5, 1, 6, 7, 0] rfl)
          · skip
            have hs7 : decide (cz 2 ≠ -1) = false := by
              cases h : decide (cz 2 ≠ -1) with
              | false => rfl
              | true => rw [h] at c_16; exact absurd c_16 (by decide)
            refine lv_iload_n X.x X.b dX1_sum_38 rfl (lv_at hl 3 rfl) ?_
            refine z_if_ne (tgt := 65) X dX1_sum_39 (by decide) (by omega) (fun c_18 => ?_) (fun c_18 => ?_)
            · skip
              have hb29 : b2 = true := by
                cases h : b2 with
                | true => rfl
                | false => rw [h] at c_18; exact absurd rfl c_18
              have hw : pc_S D A s.heap [(h0, .inr (9, [.ref aco, .ref ali, .ref acu, .ref a1, .ref a2, .ref apd, .ref asc, .ref fo, .int (zI (((wn : Nat) : Int))), .int (zI (((bn : Nat) : Int)))])), (ali, .inl (dA 6, 4, .inr (.inr (.inr (.inr lf))))), ((pa 0), .inr (7, [.ref (na 0), .ref (ra 0), .int (zI (((ml 0 : Nat) : Int))), .int (zI (cz 0)), .int (kd 0)])), ((pa 1), .inr (7, [.ref (na 1), .ref (ra 1), .int (zI (((ml 1 : Nat) : Int))), .int (zI (cz 1)), .int (kd 1)])), ((pa 2), .inr (7, [.ref (na 2), .ref (ra 2), .int (zI (((ml 2 : Nat) : Int))), .int (zI (cz 2)), .int (kd 2)])), ((pa 3), .inr (7, [.ref (na 3), .ref (ra 3), .int (zI (((ml 3 : Nat) : Int))), .int (zI (cz 3)), .int (kd 3)])), ((ra 0), .inr (0, [.ref (rb 0), .int (zI (((bl 0 : Nat) : Int))), .int (at9 0)])), ((ra 1), .inr (0, [.ref (rb 1), .int (zI (((bl 1 : Nat) : Int))), .int (at9 1)])), ((ra 2), .inr (0, [.ref (rb 2), .int (zI (((bl 2 : Nat) : Int))), .int (at9 2)])), ((ra 3), .inr (0, [.ref (rb 3), .int (zI (((bl 3 : Nat) : Int))), .int (at9 3)]))] H locs := hw.sub [0, 1, 2, 3, 9, 4, 5, 6, 7, 8] rfl rfl
              refine z_iinc (lv' := [(6, .int (zI (((2 : Nat) : Int) + 1))), (7, .ref (pa 2)), (0, .ref h0), (1, .int (zI (((b2n b1 : Nat) : Int)))), (2, .int (zI (((b2n b2 : Nat) : Int)))), (3, .int (zI (((sumN (if b1 then bl else ml) (fun j => decide (cz j ≠ -1) || !b2) 2 : Nat) : Int)))), (4, .ref ali), (5, .int (zI 4))]) X dX1_sum_65 hl (k0 := 7) rfl (by decide) rfl (fun ls hl => ?_)
              refine lv_goto (tgt := 16) X.x X.b dX1_sum_68 (by decide) ?_
              have hl : lv_has ls 8 [(6, .int (zI (((2 : Nat) : Int) + 1))), (7, .ref (pa 2)), (0, .ref h0), (1, .int (zI (((b2n b1 : Nat) : Int)))), (2, .int (zI (((b2n b2 : Nat) : Int)))), (3, .int (zI (((sumN (if b1 then bl else ml) (fun j => decide (cz j ≠ -1) || !b2) (2 + 1) : Nat) : Int)))), (4, .ref ali), (5, .int (zI 4))] := by rw [show (((sumN (if b1 then bl else ml) (fun j => decide (cz j ≠ -1) || !b2) (2 + 1) : Nat) : Int) : Int) = ((sumN (if b1 then bl else ml) (fun j => decide (cz j ≠ -1) || !b2) 2 : Nat) : Int) from by simp [sumN, hs7, hb29]]; exact hl
              have hl : lv_has ls 8 [(6, .int (zI (((2 + 1 : Nat) : Int)))), (7, .ref (pa 2)), (0, .ref h0), (1, .int (zI (((b2n b1 : Nat) : Int)))), (2, .int (zI (((b2n b2 : Nat) : Int)))), (3, .int (zI (((sumN (if b1 then bl else ml) (fun j => decide (cz j ≠ -1) || !b2) (2 + 1) : Nat) : Int)))), (4, .ref ali), (5, .int (zI 4))] := by rw [show (((2 + 1 : Nat) : Int) : Int) = ((2 : Nat) : Int) + 1 from by omega]; exact hl
              exact ih16  (2 + 1) (by omega) (by omega) H locs hw ls (lv_sub hl [2, 3, 4, 5, 6, 7, 0] rfl)
            · skip
              have hb29 : b2 = false := by
                cases h : b2 with
                | false => rfl
                | true => rw [h] at c_18; exact absurd c_18 (by decide)
              refine lv_iload_n X.x X.b dX1_sum_42 rfl (lv_at hl 4 rfl) ?_
              refine lv_iload_n X.x X.b dX1_sum_43 rfl (lv_at hl 2 rfl) ?_
              refine z_if_eq (tgt := 58) X dX1_sum_44 (by decide) (by omega) (fun c_19 => ?_) (fun c_19 => ?_)
              · skip
                have hb19 : b1 = false := by
                  cases h : b1 with
                  | false => rfl
                  | true => rw [h] at c_19; exact absurd c_19 (by decide)
                refine lv_aload X.x X.b dX1_sum_58 (lv_at hl 0 rfl) ?_
                refine z_get X hw in_X11 9 rfl rfl 2 (by decide) q166 rfl rfl dX1_sum_60 ?_
                refine z_iadd X dX1_sum_63 ?_
                refine top_i (y := zI (((sumN (if b1 then bl else ml) (fun j => decide (cz j ≠ -1) || !b2) 2) + (ml 2) : Nat) : Int)) (congrArg zI (by omega)) ?_
                refine lv_istore_n (lv' := [(3, .int (zI ((((sumN (if b1 then bl else ml) (fun j => decide (cz j ≠ -1) || !b2) 2) + (ml 2) : Nat) : Int)))), (7, .ref (pa 2)), (0, .ref h0), (1, .int (zI (((b2n b1 : Nat) : Int)))), (2, .int (zI (((b2n b2 : Nat) : Int)))), (4, .ref ali), (5, .int (zI 4)), (6, .int (zI (((2 : Nat) : Int))))]) X.x X.b dX1_sum_64 rfl hl (by decide) rfl (fun ls hl => ?_)
                have hw : pc_S D A s.heap [(h0, .inr (9, [.ref aco, .ref ali, .ref acu, .ref a1, .ref a2, .ref apd, .ref asc, .ref fo, .int (zI (((wn : Nat) : Int))), .int (zI (((bn : Nat) : Int)))])), (ali, .inl (dA 6, 4, .inr (.inr (.inr (.inr lf))))), ((pa 0), .inr (7, [.ref (na 0), .ref (ra 0), .int (zI (((ml 0 : Nat) : Int))), .int (zI (cz 0)), .int (kd 0)])), ((pa 1), .inr (7, [.ref (na 1), .ref (ra 1), .int (zI (((ml 1 : Nat) : Int))), .int (zI (cz 1)), .int (kd 1)])), ((pa 2), .inr (7, [.ref (na 2), .ref (ra 2), .int (zI (((ml 2 : Nat) : Int))), .int (zI (cz 2)), .int (kd 2)])), ((pa 3), .inr (7, [.ref (na 3), .ref (ra 3), .int (zI (((ml 3 : Nat) : Int))), .int (zI (cz 3)), .int (kd 3)])), ((ra 0), .inr (0, [.ref (rb 0), .int (zI (((bl 0 : Nat) : Int))), .int (at9 0)])), ((ra 1), .inr (0, [.ref (rb 1), .int (zI (((bl 1 : Nat) : Int))), .int (at9 1)])), ((ra 2), .inr (0, [.ref (rb 2), .int (zI (((bl 2 : Nat) : Int))), .int (at9 2)])), ((ra 3), .inr (0, [.ref (rb 3), .int (zI (((bl 3 : Nat) : Int))), .int (at9 3)]))] H locs := hw.sub [0, 1, 2, 3, 9, 4, 5, 6, 7, 8] rfl rfl
                refine z_iinc (lv' := [(6, .int (zI (((2 : Nat) : Int) + 1))), (3, .int (zI ((((sumN (if b1 then bl else ml) (fun j => decide (cz j ≠ -1) || !b2) 2) + (ml 2) : Nat) : Int)))), (7, .ref (pa 2)), (0, .ref h0), (1, .int (zI (((b2n b1 : Nat) : Int)))), (2, .int (zI (((b2n b2 : Nat) : Int)))), (4, .ref ali), (5, .int (zI 4))]) X dX1_sum_65 hl (k0 := 7) rfl (by decide) rfl (fun ls hl => ?_)
                refine lv_goto (tgt := 16) X.x X.b dX1_sum_68 (by decide) ?_
                have hl : lv_has ls 8 [(6, .int (zI (((2 : Nat) : Int) + 1))), (3, .int (zI (((sumN (if b1 then bl else ml) (fun j => decide (cz j ≠ -1) || !b2) (2 + 1) : Nat) : Int)))), (7, .ref (pa 2)), (0, .ref h0), (1, .int (zI (((b2n b1 : Nat) : Int)))), (2, .int (zI (((b2n b2 : Nat) : Int)))), (4, .ref ali), (5, .int (zI 4))] := by rw [show (((sumN (if b1 then bl else ml) (fun j => decide (cz j ≠ -1) || !b2) (2 + 1) : Nat) : Int) : Int) = (((sumN (if b1 then bl else ml) (fun j => decide (cz j ≠ -1) || !b2) 2) + (ml 2) : Nat) : Int) from by simp [sumN, hs7, hb29, hb19]]; exact hl
                have hl : lv_has ls 8 [(6, .int (zI (((2 + 1 : Nat) : Int)))), (3, .int (zI (((sumN (if b1 then bl else ml) (fun j => decide (cz j ≠ -1) || !b2) (2 + 1) : Nat) : Int)))), (7, .ref (pa 2)), (0, .ref h0), (1, .int (zI (((b2n b1 : Nat) : Int)))), (2, .int (zI (((b2n b2 : Nat) : Int)))), (4, .ref ali), (5, .int (zI 4))] := by rw [show (((2 + 1 : Nat) : Int) : Int) = ((2 : Nat) : Int) + 1 from by omega]; exact hl
                exact ih16  (2 + 1) (by omega) (by omega) H locs hw ls (lv_sub hl [3, 4, 5, 1, 6, 7, 0] rfl)
              · skip
                have hb19 : b1 = true := by
                  cases h : b1 with
                  | true => rfl
                  | false => rw [h] at c_19; exact absurd rfl c_19
                refine lv_aload X.x X.b dX1_sum_47 (lv_at hl 0 rfl) ?_
                refine z_get X hw in_X11 9 rfl rfl 1 (by decide) q163 rfl rfl dX1_sum_49 ?_
                refine z_get X hw in_X10 7 rfl rfl 1 (by decide) q142 rfl rfl dX1_sum_52 ?_
                refine lv_goto (tgt := 63) X.x X.b dX1_sum_55 (by decide) ?_
                refine z_iadd X dX1_sum_63 ?_
                refine top_i (y := zI (((sumN (if b1 then bl else ml) (fun j => decide (cz j ≠ -1) || !b2) 2) + (bl 2) : Nat) : Int)) (congrArg zI (by omega)) ?_
                refine lv_istore_n (lv' := [(3, .int (zI ((((sumN (if b1 then bl else ml) (fun j => decide (cz j ≠ -1) || !b2) 2) + (bl 2) : Nat) : Int)))), (7, .ref (pa 2)), (0, .ref h0), (1, .int (zI (((b2n b1 : Nat) : Int)))), (2, .int (zI (((b2n b2 : Nat) : Int)))), (4, .ref ali), (5, .int (zI 4)), (6, .int (zI (((2 : Nat) : Int))))]) X.x X.b dX1_sum_64 rfl hl (by decide) rfl (fun ls hl => ?_)
                have hw : pc_S D A s.heap [(h0, .inr (9, [.ref aco, .ref ali, .ref acu, .ref a1, .ref a2, .ref apd, .ref asc, .ref fo, .int (zI (((wn : Nat) : Int))), .int (zI (((bn : Nat) : Int)))])), (ali, .inl (dA 6, 4, .inr (.inr (.inr (.inr lf))))), ((pa 0), .inr (7, [.ref (na 0), .ref (ra 0), .int (zI (((ml 0 : Nat) : Int))), .int (zI (cz 0)), .int (kd 0)])), ((pa 1), .inr (7, [.ref (na 1), .ref (ra 1), .int (zI (((ml 1 : Nat) : Int))), .int (zI (cz 1)), .int (kd 1)])), ((pa 2), .inr (7, [.ref (na 2), .ref (ra 2), .int (zI (((ml 2 : Nat) : Int))), .int (zI (cz 2)), .int (kd 2)])), ((pa 3), .inr (7, [.ref (na 3), .ref (ra 3), .int (zI (((ml 3 : Nat) : Int))), .int (zI (cz 3)), .int (kd 3)])), ((ra 0), .inr (0, [.ref (rb 0), .int (zI (((bl 0 : Nat) : Int))), .int (at9 0)])), ((ra 1), .inr (0, [.ref (rb 1), .int (zI (((bl 1 : Nat) : Int))), .int (at9 1)])), ((ra 2), .inr (0, [.ref (rb 2), .int (zI (((bl 2 : Nat) : Int))), .int (at9 2)])), ((ra 3), .inr (0, [.ref (rb 3), .int (zI (((bl 3 : Nat) : Int))), .int (at9 3)]))] H locs := hw.sub [0, 1, 2, 3, 9, 4, 5, 6, 7, 8] rfl rfl
                refine z_iinc (lv' := [(6, .int (zI (((2 : Nat) : Int) + 1))), (3, .int (zI ((((sumN (if b1 then bl else ml) (fun j => decide (cz j ≠ -1) || !b2) 2) + (bl 2) : Nat) : Int)))), (7, .ref (pa 2)), (0, .ref h0), (1, .int (zI (((b2n b1 : Nat) : Int)))), (2, .int (zI (((b2n b2 : Nat) : Int)))), (4, .ref ali), (5, .int (zI 4))]) X dX1_sum_65 hl (k0 := 7) rfl (by decide) rfl (fun ls hl => ?_)
                refine lv_goto (tgt := 16) X.x X.b dX1_sum_68 (by decide) ?_
                have hl : lv_has ls 8 [(6, .int (zI (((2 : Nat) : Int) + 1))), (3, .int (zI (((sumN (if b1 then bl else ml) (fun j => decide (cz j ≠ -1) || !b2) (2 + 1) : Nat) : Int)))), (7, .ref (pa 2)), (0, .ref h0), (1, .int (zI (((b2n b1 : Nat) : Int)))), (2, .int (zI (((b2n b2 : Nat) : Int)))), (4, .ref ali), (5, .int (zI 4))] := by rw [show (((sumN (if b1 then bl else ml) (fun j => decide (cz j ≠ -1) || !b2) (2 + 1) : Nat) : Int) : Int) = (((sumN (if b1 then bl else ml) (fun j => decide (cz j ≠ -1) || !b2) 2) + (bl 2) : Nat) : Int) from by simp [sumN, hs7, hb29, hb19]]; exact hl
                have hl : lv_has ls 8 [(6, .int (zI (((2 + 1 : Nat) : Int)))), (3, .int (zI (((sumN (if b1 then bl else ml) (fun j => decide (cz j ≠ -1) || !b2) (2 + 1) : Nat) : Int)))), (7, .ref (pa 2)), (0, .ref h0), (1, .int (zI (((b2n b1 : Nat) : Int)))), (2, .int (zI (((b2n b2 : Nat) : Int)))), (4, .ref ali), (5, .int (zI 4))] := by rw [show (((2 + 1 : Nat) : Int) : Int) = ((2 : Nat) : Int) + 1 from by omega]; exact hl
                exact ih16  (2 + 1) (by omega) (by omega) H locs hw ls (lv_sub hl [3, 4, 5, 1, 6, 7, 0] rfl)
        · skip
          have hcdj := hcd 3 (by decide)
          have hmlj := hml 3 (by decide)
          have hblj := hbl 3 (by decide)
          refine lv_aload X.x X.b dX1_sum_23 (lv_at hl 4 rfl) ?_
          refine lv_iload X.x X.b dX1_sum_25 (lv_at hl 6 rfl) ?_
          refine z_aald X hw 1 6 3 rfl rfl (by decide) (by omega) (v := .ref (pa 3)) (congrArg va_rf (hlf 3 (by decide))) dX1_sum_27 ?_
          refine lv_astore (lv' := [(7, .ref (pa 3)), (0, .ref h0), (1, .int (zI (((b2n b1 : Nat) : Int)))), (2, .int (zI (((b2n b2 : Nat) : Int)))), (3, .int (zI (((sumN (if b1 then bl else ml) (fun j => decide (cz j ≠ -1) || !b2) 3 : Nat) : Int)))), (4, .ref ali), (5, .int (zI 4)), (6, .int (zI (((3 : Nat) : Int))))]) X.x X.b dX1_sum_28 hl (by decide) rfl (fun ls hl => ?_)
          refine lv_aload X.x X.b dX1_sum_30 (lv_at hl 0 rfl) ?_
          refine cv_i (c1 := 0) (s1 := 0) X hw [5] [0, 1, 2, 3, 4, 6, 7, 8, 9] (wr := [(h0, .inr (9, [.ref aco, .ref ali, .ref acu, .ref a1, .ref a2, .ref apd, .ref asc, .ref fo, .int (zI (((wn : Nat) : Int))), .int (zI (((bn : Nat) : Int)))])), (ali, .inl (dA 6, 4, .inr (.inr (.inr (.inr lf))))), ((pa 0), .inr (7, [.ref (na 0), .ref (ra 0), .int (zI (((ml 0 : Nat) : Int))), .int (zI (cz 0)), .int (kd 0)])), ((pa 1), .inr (7, [.ref (na 1), .ref (ra 1), .int (zI (((ml 1 : Nat) : Int))), .int (zI (cz 1)), .int (kd 1)])), ((pa 2), .inr (7, [.ref (na 2), .ref (ra 2), .int (zI (((ml 2 : Nat) : Int))), .int (zI (cz 2)), .int (kd 2)])), ((ra 0), .inr (0, [.ref (rb 0), .int (zI (((bl 0 : Nat) : Int))), .int (at9 0)])), ((ra 1), .inr (0, [.ref (rb 1), .int (zI (((bl 1 : Nat) : Int))), .int (at9 1)])), ((ra 2), .inr (0, [.ref (rb 2), .int (zI (((bl 2 : Nat) : Int))), .int (at9 2)])), ((ra 3), .inr (0, [.ref (rb 3), .int (zI (((bl 3 : Nat) : Int))), .int (at9 3)]))]) (va_runV (As := []) (rest := []) X.fix (m_sealed l hst D dA (pa 3) (na 3) (ra 3) (zI ((ml 3 : Nat) : Int)) (kd 3) (cz 3) (by omega) _) (cwV 0 X.t (lw_V q221 q222 q223 q47 q224) rfl rfl rfl (by decide +kernel) (pc_rmle (by decide) (by decide))) (pc_preV X hw [5] rfl rfl 7 5 rfl rfl rfl) rfl rfl hl.1 rfl (lv_room (Nat.le_of_ble_eq_true rfl)) dX1_sum_32 ⟨Nat.le_of_ble_eq_true rfl, Nat.le_of_ble_eq_true rfl⟩) rfl rfl rfl rfl (fun _ _ _ => pc_c00) (fun r_20 u_21 H locs hq hw => ?_)
          have hw : pc_S D A s.heap [(h0, .inr (9, [.ref aco, .ref ali, .ref acu, .ref a1, .ref a2, .ref apd, .ref asc, .ref fo, .int (zI (((wn : Nat) : Int))), .int (zI (((bn : Nat) : Int)))])), (ali, .inl (dA 6, 4, .inr (.inr (.inr (.inr lf))))), ((pa 0), .inr (7, [.ref (na 0), .ref (ra 0), .int (zI (((ml 0 : Nat) : Int))), .int (zI (cz 0)), .int (kd 0)])), ((pa 1), .inr (7, [.ref (na 1), .ref (ra 1), .int (zI (((ml 1 : Nat) : Int))), .int (zI (cz 1)), .int (kd 1)])), ((pa 2), .inr (7, [.ref (na 2), .ref (ra 2), .int (zI (((ml 2 : Nat) : Int))), .int (zI (cz 2)), .int (kd 2)])), ((ra 0), .inr (0, [.ref (rb 0), .int (zI (((bl 0 : Nat) : Int))), .int (at9 0)])), ((ra 1), .inr (0, [.ref (rb 1), .int (zI (((bl 1 : Nat) : Int))), .int (at9 1)])), ((ra 2), .inr (0, [.ref (rb 2), .int (zI (((bl 2 : Nat) : Int))), .int (at9 2)])), ((ra 3), .inr (0, [.ref (rb 3), .int (zI (((bl 3 : Nat) : Int))), .int (at9 3)])), ((pa 3), .inr (7, [.ref (na 3), .ref (ra 3), .int (zI (((ml 3 : Nat) : Int))), .int (zI (cz 3)), .int (kd 3)]))] H locs := hw
          subst hq
          have hb7 := b2n_le (decide (cz 3 ≠ -1))
          refine z_if_ne (tgt := 42) X dX1_sum_35 (by decide) (by omega) (fun c_22 => ?_) (fun c_22 => ?_)
          · skip
            have hs7 : decide (cz 3 ≠ -1) = true := by
              cases h : decide (cz 3 ≠ -1) with
              | true => rfl
              | false => rw [h] at c_22; exact absurd rfl c_22
            refine lv_iload_n X.x X.b dX1_sum_42 rfl (lv_at hl 4 rfl) ?_
            refine lv_iload_n X.x X.b dX1_sum_43 rfl (lv_at hl 2 rfl) ?_
            refine z_if_eq (tgt := 58) X dX1_sum_44 (by decide) (by omega) (fun c_23 => ?_) (fun c_23 => ?_)
            · skip
              have hb19 : b1 = false := by
                cases h : b1 with
                | false => rfl
                | true => rw [h] at c_23; exact absurd c_23 (by decide)
              refine lv_aload X.x X.b dX1_sum_58 (lv_at hl 0 rfl) ?_
              refine z_get X hw in_X11 9 rfl rfl 2 (by decide) q166 rfl rfl dX1_sum_60 ?_
              refine z_iadd X dX1_sum_63 ?_
              refine top_i (y := zI (((sumN (if b1 then bl else ml) (fun j => decide (cz j ≠ -1) || !b2) 3) + (ml 3) : Nat) : Int)) (congrArg zI (by omega)) ?_
              refine lv_istore_n (lv' := [(3, .int (zI ((((sumN (if b1 then bl else ml) (fun j => decide (cz j ≠ -1) || !b2) 3) + (ml 3) : Nat) : Int)))), (7, .ref (pa 3)), (0, .ref h0), (1, .int (zI (((b2n b1 : Nat) : Int)))), (2, .int (zI (((b2n b2 : Nat) : Int)))), (4, .ref ali), (5, .int (zI 4)), (6, .int (zI (((3 : Nat) : Int))))]) X.x X.b dX1_sum_64 rfl hl (by decide) rfl (fun ls hl => ?_)
              have hw : pc_S D A s.heap [(h0, .inr (9, [.ref aco, .ref ali, .ref acu, .ref a1, .ref a2, .ref apd, .ref asc, .ref fo, .int (zI (((wn : Nat) : Int))), .int (zI (((bn : Nat) : Int)))])), (ali, .inl (dA 6, 4, .inr (.inr (.inr (.inr lf))))), ((pa 0), .inr (7, [.ref (na 0), .ref (ra 0), .int (zI (((ml 0 : Nat) : Int))), .int (zI (cz 0)), .int (kd 0)])), ((pa 1), .inr (7, [.ref (na 1), .ref (ra 1), .int (zI (((ml 1 : Nat) : Int))), .int (zI (cz 1)), .int (kd 1)])), ((pa 2), .inr (7, [.ref (na 2), .ref (ra 2), .int (zI (((ml 2 : Nat) : Int))), .int (zI (cz 2)), .int (kd 2)])), ((pa 3), .inr (7, [.ref (na 3), .ref (ra 3), .int (zI (((ml 3 : Nat) : Int))), .int (zI (cz 3)), .int (kd 3)])), ((ra 0), .inr (0, [.ref (rb 0), .int (zI (((bl 0 : Nat) : Int))), .int (at9 0)])), ((ra 1), .inr (0, [.ref (rb 1), .int (zI (((bl 1 : Nat) : Int))), .int (at9 1)])), ((ra 2), .inr (0, [.ref (rb 2), .int (zI (((bl 2 : Nat) : Int))), .int (at9 2)])), ((ra 3), .inr (0, [.ref (rb 3), .int (zI (((bl 3 : Nat) : Int))), .int (at9 3)]))] H locs := hw.sub [0, 1, 2, 3, 4, 9, 5, 6, 7, 8] rfl rfl
              refine z_iinc (lv' := [(6, .int (zI (((3 : Nat) : Int) + 1))), (3, .int (zI ((((sumN (if b1 then bl else ml) (fun j => decide (cz j ≠ -1) || !b2) 3) + (ml 3) : Nat) : Int)))), (7, .ref (pa 3)), (0, .ref h0), (1, .int (zI (((b2n b1 : Nat) : Int)))), (2, .int (zI (((b2n b2 : Nat) : Int)))), (4, .ref ali), (5, .int (zI 4))]) X dX1_sum_65 hl (k0 := 7) rfl (by decide) rfl (fun ls hl => ?_)
              refine lv_goto (tgt := 16) X.x X.b dX1_sum_68 (by decide) ?_
              have hl : lv_has ls 8 [(6, .int (zI (((3 : Nat) : Int) + 1))), (3, .int (zI (((sumN (if b1 then bl else ml) (fun j => decide (cz j ≠ -1) || !b2) (3 + 1) : Nat) : Int)))), (7, .ref (pa 3)), (0, .ref h0), (1, .int (zI (((b2n b1 : Nat) : Int)))), (2, .int (zI (((b2n b2 : Nat) : Int)))), (4, .ref ali), (5, .int (zI 4))] := by rw [show (((sumN (if b1 then bl else ml) (fun j => decide (cz j ≠ -1) || !b2) (3 + 1) : Nat) : Int) : Int) = (((sumN (if b1 then bl else ml) (fun j => decide (cz j ≠ -1) || !b2) 3) + (ml 3) : Nat) : Int) from by simp [sumN, hs7, hb19]]; exact hl
              have hl : lv_has ls 8 [(6, .int (zI (((3 + 1 : Nat) : Int)))), (3, .int (zI (((sumN (if b1 then bl else ml) (fun j => decide (cz j ≠ -1) || !b2) (3 + 1) : Nat) : Int)))), (7, .ref (pa 3)), (0, .ref h0), (1, .int (zI (((b2n b1 : Nat) : Int)))), (2, .int (zI (((b2n b2 : Nat) : Int)))), (4, .ref ali), (5, .int (zI 4))] := by rw [show (((3 + 1 : Nat) : Int) : Int) = ((3 : Nat) : Int) + 1 from by omega]; exact hl
              exact ih16  (3 + 1) (by omega) (by omega) H locs hw ls (lv_sub hl [3, 4, 5, 1, 6, 7, 0] rfl)
            · skip
              have hb19 : b1 = true := by
                cases h : b1 with
                | true => rfl
                | false => rw [h] at c_23; exact absurd rfl c_23
              refine lv_aload X.x X.b dX1_sum_47 (lv_at hl 0 rfl) ?_
              refine z_get X hw in_X11 9 rfl rfl 1 (by decide) q163 rfl rfl dX1_sum_49 ?_
              refine z_get X hw in_X10 8 rfl rfl 1 (by decide) q142 rfl rfl dX1_sum_52 ?_
              refine lv_goto (tgt := 63) X.x X.b dX1_sum_55 (by decide) ?_
              refine z_iadd X dX1_sum_63 ?_
              refine top_i (y := zI (((sumN (if b1 then bl else ml) (fun j => decide (cz j ≠ -1) || !b2) 3) + (bl 3) : Nat) : Int)) (congrArg zI (by omega)) ?_
              refine lv_istore_n (lv' := [(3, .int (zI ((((sumN (if b1 then bl else ml) (fun j => decide (cz j ≠ -1) || !b2) 3) + (bl 3) : Nat) : Int)))), (7, .ref (pa 3)), (0, .ref h0), (1, .int (zI (((b2n b1 : Nat) : Int)))), (2, .int (zI (((b2n b2 : Nat) : Int)))), (4, .ref ali), (5, .int (zI 4)), (6, .int (zI (((3 : Nat) : Int))))]) X.x X.b dX1_sum_64 rfl hl (by decide) rfl (fun ls hl => ?_)
              have hw : pc_S D A s.heap [(h0, .inr (9, [.ref aco, .ref ali, .ref acu, .ref a1, .ref a2, .ref apd, .ref asc, .ref fo, .int (zI (((wn : Nat) : Int))), .int (zI (((bn : Nat) : Int)))])), (ali, .inl (dA 6, 4, .inr (.inr (.inr (.inr lf))))), ((pa 0), .inr (7, [.ref (na 0), .ref (ra 0), .int (zI (((ml 0 : Nat) : Int))), .int (zI (cz 0)), .int (kd 0)])), ((pa 1), .inr (7, [.ref (na 1), .ref (ra 1), .int (zI (((ml 1 : Nat) : Int))), .int (zI (cz 1)), .int (kd 1)])), ((pa 2), .inr (7, [.ref (na 2), .ref (ra 2), .int (zI (((ml 2 : Nat) : Int))), .int (zI (cz 2)), .int (kd 2)])), ((pa 3), .inr (7, [.ref (na 3), .ref (ra 3), .int (zI (((ml 3 : Nat) : Int))), .int (zI (cz 3)), .int (kd 3)])), ((ra 0), .inr (0, [.ref (rb 0), .int (zI (((bl 0 : Nat) : Int))), .int (at9 0)])), ((ra 1), .inr (0, [.ref (rb 1), .int (zI (((bl 1 : Nat) : Int))), .int (at9 1)])), ((ra 2), .inr (0, [.ref (rb 2), .int (zI (((bl 2 : Nat) : Int))), .int (at9 2)])), ((ra 3), .inr (0, [.ref (rb 3), .int (zI (((bl 3 : Nat) : Int))), .int (at9 3)]))] H locs := hw.sub [0, 1, 2, 3, 4, 9, 5, 6, 7, 8] rfl rfl
              refine z_iinc (lv' := [(6, .int (zI (((3 : Nat) : Int) + 1))), (3, .int (zI ((((sumN (if b1 then bl else ml) (fun j => decide (cz j ≠ -1) || !b2) 3) + (bl 3) : Nat) : Int)))), (7, .ref (pa 3)), (0, .ref h0), (1, .int (zI (((b2n b1 : Nat) : Int)))), (2, .int (zI (((b2n b2 : Nat) : Int)))), (4, .ref ali), (5, .int (zI 4))]) X dX1_sum_65 hl (k0 := 7) rfl (by decide) rfl (fun ls hl => ?_)
              refine lv_goto (tgt := 16) X.x X.b dX1_sum_68 (by decide) ?_
              have hl : lv_has ls 8 [(6, .int (zI (((3 : Nat) : Int) + 1))), (3, .int (zI (((sumN (if b1 then bl else ml) (fun j => decide (cz j ≠ -1) || !b2) (3 + 1) : Nat) : Int)))), (7, .ref (pa 3)), (0, .ref h0), (1, .int (zI (((b2n b1 : Nat) : Int)))), (2, .int (zI (((b2n b2 : Nat) : Int)))), (4, .ref ali), (5, .int (zI 4))] := by rw [show (((sumN (if b1 then bl else ml) (fun j => decide (cz j ≠ -1) || !b2) (3 + 1) : Nat) : Int) : Int) = (((sumN (if b1 then bl else ml) (fun j => decide (cz j ≠ -1) || !b2) 3) + (bl 3) : Nat) : Int) from by simp [sumN, hs7, hb19]]; exact hl
              have hl : lv_has ls 8 [(6, .int (zI (((3 + 1 : Nat) : Int)))), (3, .int (zI (((sumN (if b1 then bl else ml) (fun j => decide (cz j ≠ -1) || !b2) (3 + 1) : Nat) : Int)))), (7, .ref (pa 3)), (0, .ref h0), (1, .int (zI (((b2n b1 : Nat) : Int)))), (2, .int (zI (((b2n b2 : Nat) : Int)))), (4, .ref ali), (5, .int (zI 4))] := by rw [show (((3 + 1 : Nat) : Int) : Int) = ((3 : Nat) : Int) + 1 from by omega]; exact hl
              exact ih16  (3 + 1) (by omega) (by omega) H locs hw ls (lv_sub hl [3, 4, 5, 1, 6, 7, 0] rfl)
          · skip
            have hs7 : decide (cz 3 ≠ -1) = false := by
              cases h : decide (cz 3 ≠ -1) with
              | false => rfl
              | true => rw [h] at c_22; exact absurd c_22 (by decide)
            refine lv_iload_n X.x X.b dX1_sum_38 rfl (lv_at hl 3 rfl) ?_
            refine z_if_ne (tgt := 65) X dX1_sum_39 (by decide) (by omega) (fun c_24 => ?_) (fun c_24 => ?_)
            · skip
              have hb29 : b2 = true := by
                cases h : b2 with
                | true => rfl
                | false => rw [h] at c_24; exact absurd rfl c_24
              have hw : pc_S D A s.heap [(h0, .inr (9, [.ref aco, .ref ali, .ref acu, .ref a1, .ref a2, .ref apd, .ref asc, .ref fo, .int (zI (((wn : Nat) : Int))), .int (zI (((bn : Nat) : Int)))])), (ali, .inl (dA 6, 4, .inr (.inr (.inr (.inr lf))))), ((pa 0), .inr (7, [.ref (na 0), .ref (ra 0), .int (zI (((ml 0 : Nat) : Int))), .int (zI (cz 0)), .int (kd 0)])), ((pa 1), .inr (7, [.ref (na 1), .ref (ra 1), .int (zI (((ml 1 : Nat) : Int))), .int (zI (cz 1)), .int (kd 1)])), ((pa 2), .inr (7, [.ref (na 2), .ref (ra 2), .int (zI (((ml 2 : Nat) : Int))), .int (zI (cz 2)), .int (kd 2)])), ((pa 3), .inr (7, [.ref (na 3), .ref (ra 3), .int (zI (((ml 3 : Nat) : Int))), .int (zI (cz 3)), .int (kd 3)])), ((ra 0), .inr (0, [.ref (rb 0), .int (zI (((bl 0 : Nat) : Int))), .int (at9 0)])), ((ra 1), .inr (0, [.ref (rb 1), .int (zI (((bl 1 : Nat) : Int))), .int (at9 1)])), ((ra 2), .inr (0, [.ref (rb 2), .int (zI (((bl 2 : Nat) : Int))), .int (at9 2)])), ((ra 3), .inr (0, [.ref (rb 3), .int (zI (((bl 3 : Nat) : Int))), .int (at9 3)]))] H locs := hw.sub [0, 1, 2, 3, 4, 9, 5, 6, 7, 8] rfl rfl
              refine z_iinc (lv' := [(6, .int (zI (((3 : Nat) : Int) + 1))), (7, .ref (pa 3)), (0, .ref h0), (1, .int (zI (((b2n b1 : Nat) : Int)))), (2, .int (zI (((b2n b2 : Nat) : Int)))), (3, .int (zI (((sumN (if b1 then bl else ml) (fun j => decide (cz j ≠ -1) || !b2) 3 : Nat) : Int)))), (4, .ref ali), (5, .int (zI 4))]) X dX1_sum_65 hl (k0 := 7) rfl (by decide) rfl (fun ls hl => ?_)
              refine lv_goto (tgt := 16) X.x X.b dX1_sum_68 (by decide) ?_
              have hl : lv_has ls 8 [(6, .int (zI (((3 : Nat) : Int) + 1))), (7, .ref (pa 3)), (0, .ref h0), (1, .int (zI (((b2n b1 : Nat) : Int)))), (2, .int (zI (((b2n b2 : Nat) : Int)))), (3, .int (zI (((sumN (if b1 then bl else ml) (fun j => decide (cz j ≠ -1) || !b2) (3 + 1) : Nat) : Int)))), (4, .ref ali), (5, .int (zI 4))] := by rw [show (((sumN (if b1 then bl else ml) (fun j => decide (cz j ≠ -1) || !b2) (3 + 1) : Nat) : Int) : Int) = ((sumN (if b1 then bl else ml) (fun j => decide (cz j ≠ -1) || !b2) 3 : Nat) : Int) from by simp [sumN, hs7, hb29]]; exact hl
              have hl : lv_has ls 8 [(6, .int (zI (((3 + 1 : Nat) : Int)))), (7, .ref (pa 3)), (0, .ref h0), (1, .int (zI (((b2n b1 : Nat) : Int)))), (2, .int (zI (((b2n b2 : Nat) : Int)))), (3, .int (zI (((sumN (if b1 then bl else ml) (fun j => decide (cz j ≠ -1) || !b2) (3 + 1) : Nat) : Int)))), (4, .ref ali), (5, .int (zI 4))] := by rw [show (((3 + 1 : Nat) : Int) : Int) = ((3 : Nat) : Int) + 1 from by omega]; exact hl
              exact ih16  (3 + 1) (by omega) (by omega) H locs hw ls (lv_sub hl [2, 3, 4, 5, 6, 7, 0] rfl)
            · skip
              have hb29 : b2 = false := by
                cases h : b2 with
                | false => rfl
                | true => rw [h] at c_24; exact absurd c_24 (by decide)
              refine lv_iload_n X.x X.b dX1_sum_42 rfl (lv_at hl 4 rfl) ?_
              refine lv_iload_n X.x X.b dX1_sum_43 rfl (lv_at hl 2 rfl) ?_
              refine z_if_eq (tgt := 58) X dX1_sum_44 (by decide) (by omega) (fun c_25 => ?_) (fun c_25 => ?_)
              · skip
                have hb19 : b1 = false := by
                  cases h : b1 with
                  | false => rfl
                  | true => rw [h] at c_25; exact absurd c_25 (by decide)
                refine lv_aload X.x X.b dX1_sum_58 (lv_at hl 0 rfl) ?_
                refine z_get X hw in_X11 9 rfl rfl 2 (by decide) q166 rfl rfl dX1_sum_60 ?_
                refine z_iadd X dX1_sum_63 ?_
                refine top_i (y := zI (((sumN (if b1 then bl else ml) (fun j => decide (cz j ≠ -1) || !b2) 3) + (ml 3) : Nat) : Int)) (congrArg zI (by omega)) ?_
                refine lv_istore_n (lv' := [(3, .int (zI ((((sumN (if b1 then bl else ml) (fun j => decide (cz j ≠ -1) || !b2) 3) + (ml 3) : Nat) : Int)))), (7, .ref (pa 3)), (0, .ref h0), (1, .int (zI (((b2n b1 : Nat) : Int)))), (2, .int (zI (((b2n b2 : Nat) : Int)))), (4, .ref ali), (5, .int (zI 4)), (6, .int (zI (((3 : Nat) : Int))))]) X.x X.b dX1_sum_64 rfl hl (by decide) rfl (fun ls hl => ?_)
                have hw : pc_S D A s.heap [(h0, .inr (9, [.ref aco, .ref ali, .ref acu, .ref a1, .ref a2, .ref apd, .ref asc, .ref fo, .int (zI (((wn : Nat) : Int))), .int (zI (((bn : Nat) : Int)))])), (ali, .inl (dA 6, 4, .inr (.inr (.inr (.inr lf))))), ((pa 0), .inr (7, [.ref (na 0), .ref (ra 0), .int (zI (((ml 0 : Nat) : Int))), .int (zI (cz 0)), .int (kd 0)])), ((pa 1), .inr (7, [.ref (na 1), .ref (ra 1), .int (zI (((ml 1 : Nat) : Int))), .int (zI (cz 1)), .int (kd 1)])), ((pa 2), .inr (7, [.ref (na 2), .ref (ra 2), .int (zI (((ml 2 : Nat) : Int))), .int (zI (cz 2)), .int (kd 2)])), ((pa 3), .inr (7, [.ref (na 3), .ref (ra 3), .int (zI (((ml 3 : Nat) : Int))), .int (zI (cz 3)), .int (kd 3)])), ((ra 0), .inr (0, [.ref (rb 0), .int (zI (((bl 0 : Nat) : Int))), .int (at9 0)])), ((ra 1), .inr (0, [.ref (rb 1), .int (zI (((bl 1 : Nat) : Int))), .int (at9 1)])), ((ra 2), .inr (0, [.ref (rb 2), .int (zI (((bl 2 : Nat) : Int))), .int (at9 2)])), ((ra 3), .inr (0, [.ref (rb 3), .int (zI (((bl 3 : Nat) : Int))), .int (at9 3)]))] H locs := hw.sub [0, 1, 2, 3, 4, 9, 5, 6, 7, 8] rfl rfl
                refine z_iinc (lv' := [(6, .int (zI (((3 : Nat) : Int) + 1))), (3, .int (zI ((((sumN (if b1 then bl else ml) (fun j => decide (cz j ≠ -1) || !b2) 3) + (ml 3) : Nat) : Int)))), (7, .ref (pa 3)), (0, .ref h0), (1, .int (zI (((b2n b1 : Nat) : Int)))), (2, .int (zI (((b2n b2 : Nat) : Int)))), (4, .ref ali), (5, .int (zI 4))]) X dX1_sum_65 hl (k0 := 7) rfl (by decide) rfl (fun ls hl => ?_)
                refine lv_goto (tgt := 16) X.x X.b dX1_sum_68 (by decide) ?_
                have hl : lv_has ls 8 [(6, .int (zI (((3 : Nat) : Int) + 1))), (3, .int (zI (((sumN (if b1 then bl else ml) (fun j => decide (cz j ≠ -1) || !b2) (3 + 1) : Nat) : Int)))), (7, .ref (pa 3)), (0, .ref h0), (1, .int (zI (((b2n b1 : Nat) : Int)))), (2, .int (zI (((b2n b2 : Nat) : Int)))), (4, .ref ali), (5, .int (zI 4))] := by rw [show (((sumN (if b1 then bl else ml) (fun j => decide (cz j ≠ -1) || !b2) (3 + 1) : Nat) : Int) : Int) = (((sumN (if b1 then bl else ml) (fun j => decide (cz j ≠ -1) || !b2) 3) + (ml 3) : Nat) : Int) from by simp [sumN, hs7, hb29, hb19]]; exact hl
                have hl : lv_has ls 8 [(6, .int (zI (((3 + 1 : Nat) : Int)))), (3, .int (zI (((sumN (if b1 then bl else ml) (fun j => decide (cz j ≠ -1) || !b2) (3 + 1) : Nat) : Int)))), (7, .ref (pa 3)), (0, .ref h0), (1, .int (zI (((b2n b1 : Nat) : Int)))), (2, .int (zI (((b2n b2 : Nat) : Int)))), (4, .ref ali), (5, .int (zI 4))] := by rw [show (((3 + 1 : Nat) : Int) : Int) = ((3 : Nat) : Int) + 1 from by omega]; exact hl
                exact ih16  (3 + 1) (by omega) (by omega) H locs hw ls (lv_sub hl [3, 4, 5, 1, 6, 7, 0] rfl)
              · skip
                have hb19 : b1 = true := by
                  cases h : b1 with
                  | true => rfl
                  | false => rw [h] at c_25; exact absurd rfl c_25
                refine lv_aload X.x X.b dX1_sum_47 (lv_at hl 0 rfl) ?_
                refine z_get X hw in_X11 9 rfl rfl 1 (by decide) q163 rfl rfl dX1_sum_49 ?_
                refine z_get X hw in_X10 8 rfl rfl 1 (by decide) q142 rfl rfl dX1_sum_52 ?_
                refine lv_goto (tgt := 63) X.x X.b dX1_sum_55 (by decide) ?_
                refine z_iadd X dX1_sum_63 ?_
                refine top_i (y := zI (((sumN (if b1 then bl else ml) (fun j => decide (cz j ≠ -1) || !b2) 3) + (bl 3) : Nat) : Int)) (congrArg zI (by omega)) ?_
                refine lv_istore_n (lv' := [(3, .int (zI ((((sumN (if b1 then bl else ml) (fun j => decide (cz j ≠ -1) || !b2) 3) + (bl 3) : Nat) : Int)))), (7, .ref (pa 3)), (0, .ref h0), (1, .int (zI (((b2n b1 : Nat) : Int)))), (2, .int (zI (((b2n b2 : Nat) : Int)))), (4, .ref ali), (5, .int (zI 4)), (6, .int (zI (((3 : Nat) : Int))))]) X.x X.b dX1_sum_64 rfl hl (by decide) rfl (fun ls hl => ?_)
                have hw : pc_S D A s.heap [(h0, .inr (9, [.ref aco, .ref ali, .ref acu, .ref a1, .ref a2, .ref apd, .ref asc, .ref fo, .int (zI (((wn : Nat) : Int))), .int (zI (((bn : Nat) : Int)))])), (ali, .inl (dA 6, 4, .inr (.inr (.inr (.inr lf))))), ((pa 0), .inr (7, [.ref (na 0), .ref (ra 0), .int (zI (((ml 0 : Nat) : Int))), .int (zI (cz 0)), .int (kd 0)])), ((pa 1), .inr (7, [.ref (na 1), .ref (ra 1), .int (zI (((ml 1 : Nat) : Int))), .int (zI (cz 1)), .int (kd 1)])), ((pa 2), .inr (7, [.ref (na 2), .ref (ra 2), .int (zI (((ml 2 : Nat) : Int))), .int (zI (cz 2)), .int (kd 2)])), ((pa 3), .inr (7, [.ref (na 3), .ref (ra 3), .int (zI (((ml 3 : Nat) : Int))), .int (zI (cz 3)), .int (kd 3)])), ((ra 0), .inr (0, [.ref (rb 0), .int (zI (((bl 0 : Nat) : Int))), .int (at9 0)])), ((ra 1), .inr (0, [.ref (rb 1), .int (zI (((bl 1 : Nat) : Int))), .int (at9 1)])), ((ra 2), .inr (0, [.ref (rb 2), .int (zI (((bl 2 : Nat) : Int))), .int (at9 2)])), ((ra 3), .inr (0, [.ref (rb 3), .int (zI (((bl 3 : Nat) : Int))), .int (at9 3)]))] H locs := hw.sub [0, 1, 2, 3, 4, 9, 5, 6, 7, 8] rfl rfl
                refine z_iinc (lv' := [(6, .int (zI (((3 : Nat) : Int) + 1))), (3, .int (zI ((((sumN (if b1 then bl else ml) (fun j => decide (cz j ≠ -1) || !b2) 3) + (bl 3) : Nat) : Int)))), (7, .ref (pa 3)), (0, .ref h0), (1, .int (zI (((b2n b1 : Nat) : Int)))), (2, .int (zI (((b2n b2 : Nat) : Int)))), (4, .ref ali), (5, .int (zI 4))]) X dX1_sum_65 hl (k0 := 7) rfl (by decide) rfl (fun ls hl => ?_)
                refine lv_goto (tgt := 16) X.x X.b dX1_sum_68 (by decide) ?_
                have hl : lv_has ls 8 [(6, .int (zI (((3 : Nat) : Int) + 1))), (3, .int (zI (((sumN (if b1 then bl else ml) (fun j => decide (cz j ≠ -1) || !b2) (3 + 1) : Nat) : Int)))), (7, .ref (pa 3)), (0, .ref h0), (1, .int (zI (((b2n b1 : Nat) : Int)))), (2, .int (zI (((b2n b2 : Nat) : Int)))), (4, .ref ali), (5, .int (zI 4))] := by rw [show (((sumN (if b1 then bl else ml) (fun j => decide (cz j ≠ -1) || !b2) (3 + 1) : Nat) : Int) : Int) = (((sumN (if b1 then bl else ml) (fun j => decide (cz j ≠ -1) || !b2) 3) + (bl 3) : Nat) : Int) from by simp [sumN, hs7, hb29, hb19]]; exact hl
                have hl : lv_has ls 8 [(6, .int (zI (((3 + 1 : Nat) : Int)))), (3, .int (zI (((sumN (if b1 then bl else ml) (fun j => decide (cz j ≠ -1) || !b2) (3 + 1) : Nat) : Int)))), (7, .ref (pa 3)), (0, .ref h0), (1, .int (zI (((b2n b1 : Nat) : Int)))), (2, .int (zI (((b2n b2 : Nat) : Int)))), (4, .ref ali), (5, .int (zI 4))] := by rw [show (((3 + 1 : Nat) : Int) : Int) = ((3 : Nat) : Int) + 1 from by omega]; exact hl
                exact ih16  (3 + 1) (by omega) (by omega) H locs hw ls (lv_sub hl [3, 4, 5, 1, 6, 7, 0] rfl)
  exact B16 _ 0 (Nat.zero_le _) (Nat.lt_succ_self _) H locs hw ls (lv_sub hl [4, 5, 6, 3, 2, 1, 0] rfl)
