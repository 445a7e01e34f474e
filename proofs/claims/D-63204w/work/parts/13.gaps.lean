/-! GAP CODES: put, take, encode -/
set_option maxRecDepth 100000
set_option maxHeartbeats 4000000 in
/-- PostingCodes$Bytes.put -/
theorem m_one_put_0 (l : Launch) (hst : l.stackTraces = false) (D : va_G) (dA : Nat → ClassId) (hc h0 hb : Nat) (ta : Int32) (bs : List Bool) (h k : Nat) (f : Nat → Int32) (hf : RowIs bs f) (hlen : bs.length ≤ 900000) (hh : h ≤ 4095) (hk : k ≤ 7) : pc_V l yX3_put cX3_put 5 (pc_rm 2 0 0) D dA [.ref hc, .ref h0, .int (zI (((h : Nat) : Int))), .int (zI (((k : Nat) : Int)))] [(h0, .inr (0, [.ref hb, .int (zI (((bs.length : Nat) : Int))), .int (ta)])), (hb, .inl (dA 0, 400, .inl f))] (fun f' : Nat → Int32 => RowIs (bs ++ oneC 0 k h) f') (fun f' => [(h0, .inr (0, [.ref hb, .int (zI ((((bs ++ oneC 0 k h).length : Nat) : Int))), .int (ta)])), (hb, .inl (dA 0, 400, .inl f'))]) := by
  refine st_v hst (by decide) RX3 rfl (Nat.le_of_ble_eq_true rfl) ?_
  intro pg ev s mt args below meth cd R A Q hR X hin exit H locs hw ls hl
  subst hR
  have hl : lv_has ls 5 [(0, .ref hc), (1, .ref h0), (2, .int (zI (((h : Nat) : Int)))), (3, .int (zI (((k : Nat) : Int))))] := hl
  refine lv_iload_n X.x X.b dX3_put_0 rfl (lv_at hl 2 rfl) ?_
  refine lv_istore (lv' := [(4, .int (zI (((h : Nat) : Int)))), (0, .ref hc), (1, .ref h0), (2, .int (zI (((h : Nat) : Int)))), (3, .int (zI (((k : Nat) : Int))))]) X.x X.b dX3_put_1 hl (by decide) rfl (fun ls hl => ?_)
  refine lv_iload X.x X.b dX3_put_3 (lv_at hl 0 rfl) ?_
  refine z_bipush X dX3_put_5 (by decide) ?_
  refine z_icmp_le (tgt := 31) X dX3_put_7 (by decide) (by omega) (by omega) (fun c_1 => ?_) (fun c_1 => ?_)
  · skip
    refine lv_aload_n X.x X.b dX3_put_31 rfl (lv_at hl 2 rfl) ?_
    refine z_sipush X dX3_put_32 (by decide) ?_
    refine lv_iload X.x X.b dX3_put_35 (lv_at hl 0 rfl) ?_
    refine z_iadd X dX3_put_37 ?_
    refine top_i (y := zI ((128 + h : Nat) : Int)) (congrArg zI (by omega)) ?_
    refine z_bipush X dX3_put_38 (by decide) ?_
    refine cv_v (c1 := 0) (s1 := 0) X hw [0, 1] [] (wr := []) (va_runV (As := [.int (zI (((128 + h : Nat) : Int))), .int (zI 8)]) (rest := []) X.fix (m_Row_put l hst D dA h0 hb (ta) bs (zI ((128 + h : Nat) : Int)) 8 f hf (by first | omega | (simp only [List.length_append, pb_len, List.length_replicate]; omega)) _) (cwV 2 X.t (lw_V q382 q383 q384 q46 q385) rfl rfl rfl (by decide +kernel) (pc_rmle (by decide) (by decide))) (pc_preV X hw [0, 1] rfl rfl 0 0 rfl rfl rfl) rfl rfl hl.1 rfl (lv_room (Nat.le_of_ble_eq_true rfl)) dX3_put_40 ⟨Nat.le_of_ble_eq_true rfl, Nat.le_of_ble_eq_true rfl⟩) rfl rfl rfl rfl (fun _ _ => pc_c00) (fun u_3 H locs hq hw => ?_)
    have hw : pc_S D A s.heap [(h0, .inr (0, [.ref hb, .int (zI ((((bs ++ pb (zI ((128 + h : Nat) : Int)) 8).length : Nat) : Int))), .int (ta)])), (hb, .inl (dA 0, 400, .inl u_3))] H locs := hw
    have hu_3 := hq
    have e9 : bs ++ pb (zI ((128 + h : Nat) : Int)) 8 = bs ++ oneC 0 k h := by
      show _ = bs ++ (if 127 < h then _ else _)
      rw [if_neg (by omega)]
    rw [e9] at hw hu_3
    exact exit u_3 dX3_put_43 hu_3 hw (Nat.zero_le _) (Nat.zero_le _)
  · skip
    refine lv_aload_n X.x X.b dX3_put_10 rfl (lv_at hl 2 rfl) ?_
    refine lv_iload X.x X.b dX3_put_11 (lv_at hl 0 rfl) ?_
    refine z_bipush X dX3_put_13 (by decide) ?_
    refine lv_iand X.x X.b dX3_put_15 ?_
    refine top_i (y := zI ((h % 128 : Nat) : Int)) ((zI_and (n := h) (by omega) (m := 127) (by omega)).trans (congrArg (fun q : Nat => zI (q : Int)) (and127 h))) ?_
    refine z_bipush X dX3_put_16 (by decide) ?_
    refine cv_v (c1 := 0) (s1 := 0) X hw [0, 1] [] (wr := []) (va_runV (As := [.int (zI (((h % 128 : Nat) : Int))), .int (zI 8)]) (rest := []) X.fix (m_Row_put l hst D dA h0 hb (ta) bs (zI ((h % 128 : Nat) : Int)) 8 f hf (by first | omega | (simp only [List.length_append, pb_len, List.length_replicate]; omega)) _) (cwV 2 X.t (lw_V q382 q383 q384 q46 q385) rfl rfl rfl (by decide +kernel) (pc_rmle (by decide) (by decide))) (pc_preV X hw [0, 1] rfl rfl 0 0 rfl rfl rfl) rfl rfl hl.1 rfl (lv_room (Nat.le_of_ble_eq_true rfl)) dX3_put_18 ⟨Nat.le_of_ble_eq_true rfl, Nat.le_of_ble_eq_true rfl⟩) rfl rfl rfl rfl (fun _ _ => pc_c00) (fun u_5 H locs hq hw => ?_)
    have hw : pc_S D A s.heap [(h0, .inr (0, [.ref hb, .int (zI ((((bs ++ pb (zI ((h % 128 : Nat) : Int)) 8).length : Nat) : Int))), .int (ta)])), (hb, .inl (dA 0, 400, .inl u_5))] H locs := hw
    have hu_5 := hq
    refine lv_iload X.x X.b dX3_put_21 (lv_at hl 0 rfl) ?_
    refine z_bipush X dX3_put_23 (by decide) ?_
    refine lv_ishr X.x X.b dX3_put_25 ?_
    refine top_i (y := zI ((h / 128 : Nat) : Int)) (zI_shr (n := h) (by omega) (k := 7) (by omega)) ?_
    refine lv_istore (lv' := [(4, .int (zI (((h / 128 : Nat) : Int)))), (0, .ref hc), (1, .ref h0), (2, .int (zI (((h : Nat) : Int)))), (3, .int (zI (((k : Nat) : Int))))]) X.x X.b dX3_put_26 hl (by decide) rfl (fun ls hl => ?_)
    refine lv_goto (tgt := 3) X.x X.b dX3_put_28 (by decide) ?_
    refine lv_iload X.x X.b dX3_put_3 (lv_at hl 0 rfl) ?_
    refine z_bipush X dX3_put_5 (by decide) ?_
    refine z_icmp_le (tgt := 31) X dX3_put_7 (by decide) (by omega) (by omega) (fun c_6 => ?_) (fun c_6 => ?_)
    · skip
      refine lv_aload_n X.x X.b dX3_put_31 rfl (lv_at hl 2 rfl) ?_
      refine z_sipush X dX3_put_32 (by decide) ?_
      refine lv_iload X.x X.b dX3_put_35 (lv_at hl 0 rfl) ?_
      refine z_iadd X dX3_put_37 ?_
      refine top_i (y := zI ((128 + (h / 128) : Nat) : Int)) (congrArg zI (by omega)) ?_
      refine z_bipush X dX3_put_38 (by decide) ?_
      refine cv_v (c1 := 0) (s1 := 0) X hw [0, 1] [] (wr := []) (va_runV (As := [.int (zI (((128 + (h / 128) : Nat) : Int))), .int (zI 8)]) (rest := []) X.fix (m_Row_put l hst D dA h0 hb (ta) (bs ++ pb (zI ((h % 128 : Nat) : Int)) 8) (zI ((128 + (h / 128) : Nat) : Int)) 8 u_5 hu_5 (by first | omega | (simp only [List.length_append, pb_len, List.length_replicate]; omega)) _) (cwV 2 X.t (lw_V q382 q383 q384 q46 q385) rfl rfl rfl (by decide +kernel) (pc_rmle (by decide) (by decide))) (pc_preV X hw [0, 1] rfl rfl 0 0 rfl rfl rfl) rfl rfl hl.1 rfl (lv_room (Nat.le_of_ble_eq_true rfl)) dX3_put_40 ⟨Nat.le_of_ble_eq_true rfl, Nat.le_of_ble_eq_true rfl⟩) rfl rfl rfl rfl (fun _ _ => pc_c00) (fun u_8 H locs hq hw => ?_)
      have hw : pc_S D A s.heap [(h0, .inr (0, [.ref hb, .int (zI (((((bs ++ pb (zI ((h % 128 : Nat) : Int)) 8) ++ pb (zI ((128 + (h / 128) : Nat) : Int)) 8).length : Nat) : Int))), .int (ta)])), (hb, .inl (dA 0, 400, .inl u_8))] H locs := hw
      have hu_8 := hq
      have e9 : (bs ++ pb (zI ((h % 128 : Nat) : Int)) 8) ++ pb (zI ((128 + (h / 128) : Nat) : Int)) 8 = bs ++ oneC 0 k h := by
        show _ = bs ++ (if 127 < h then _ else _)
        rw [if_pos (by omega), List.append_assoc]
      rw [e9] at hw hu_8
      exact exit u_8 dX3_put_43 hu_8 hw (Nat.zero_le _) (Nat.zero_le _)
    · skip
      omega
set_option maxHeartbeats 4000000 in
/-- PostingCodes$Gamma.put -/
theorem m_one_put_1 (l : Launch) (hst : l.stackTraces = false) (D : va_G) (dA : Nat → ClassId) (hc h0 hb : Nat) (ta : Int32) (bs : List Bool) (h k : Nat) (f : Nat → Int32) (hf : RowIs bs f) (hlen : bs.length ≤ 900000) (hh : h ≤ 4095) (hk : k ≤ 7) : pc_V l yX4_put cX4_put 6 (pc_rm 2 0 0) D dA [.ref hc, .ref h0, .int (zI (((h : Nat) : Int))), .int (zI (((k : Nat) : Int)))] [(h0, .inr (0, [.ref hb, .int (zI (((bs.length : Nat) : Int))), .int (ta)])), (hb, .inl (dA 0, 400, .inl f))] (fun f' : Nat → Int32 => RowIs (bs ++ oneC 1 k h) f') (fun f' => [(h0, .inr (0, [.ref hb, .int (zI ((((bs ++ oneC 1 k h).length : Nat) : Int))), .int (ta)])), (hb, .inl (dA 0, 400, .inl f'))]) := by
  refine st_v hst (by decide) RX4 rfl (Nat.le_of_ble_eq_true rfl) ?_
  intro pg ev s mt args below meth cd R A Q hR X hin exit H locs hw ls hl
  subst hR
  have hl : lv_has ls 6 [(0, .ref hc), (1, .ref h0), (2, .int (zI (((h : Nat) : Int)))), (3, .int (zI (((k : Nat) : Int))))] := hl
  refine lv_iload_n X.x X.b dX4_put_0 rfl (lv_at hl 2 rfl) ?_
  refine z_iconst X dX4_put_1 ?_
  refine z_iadd X dX4_put_2 ?_
  refine top_i (y := zI ((h + 1 : Nat) : Int)) (congrArg zI (by omega)) ?_
  refine lv_istore (lv' := [(4, .int (zI (((h + 1 : Nat) : Int)))), (0, .ref hc), (1, .ref h0), (2, .int (zI (((h : Nat) : Int)))), (3, .int (zI (((k : Nat) : Int))))]) X.x X.b dX4_put_3 hl (by decide) rfl (fun ls hl => ?_)
  refine z_iconst X dX4_put_5 ?_
  refine lv_istore (lv' := [(5, .int (zI 0)), (4, .int (zI (((h + 1 : Nat) : Int)))), (0, .ref hc), (1, .ref h0), (2, .int (zI (((h : Nat) : Int)))), (3, .int (zI (((k : Nat) : Int))))]) X.x X.b dX4_put_6 hl (by decide) rfl (fun ls hl => ?_)
  have B8 : ∀ (NN : Nat) (L : Nat) (hL : L + 1 ≤ blen (h + 1)) (hNN : 40 - L < NN) (H : Heap) (locs : List Loc), pc_S D A s.heap [(h0, .inr (0, [.ref hb, .int (zI (((bs.length : Nat) : Int))), .int (ta)])), (hb, .inl (dA 0, 400, .inl f))] H locs → ∀ ls : Array Slot, lv_has ls 6 [(0, .ref hc), (1, .ref h0), (2, .int (zI (((h : Nat) : Int)))), (3, .int (zI (((k : Nat) : Int)))), (4, .int (zI (((h + 1 : Nat) : Int)))), (5, .int (zI (((L : Nat) : Int))))] → W pg l ev (pc_rm 2 0 0) s mt args below meth cd H locs 0 0 Q (F0 mt 8 ls []) := by
    intro NN
    induction NN with
    | zero => intro L hL hNN; exact absurd hNN (Nat.not_lt_zero _)
    | succ NN ih8 =>
      intro L hL hNN H locs hw ls hl
      have h13 : blen (h + 1) ≤ 13 := blen_max (by omega)
      have hdv : (h + 1) / 2 ^ L ≤ h + 1 := Nat.div_le_self _ _
      refine lv_iload X.x X.b dX4_put_8 (lv_at hl 4 rfl) ?_
      refine lv_iload X.x X.b dX4_put_10 (lv_at hl 5 rfl) ?_
      refine lv_ishr X.x X.b dX4_put_12 ?_
      refine top_i (y := zI (((h + 1) / 2 ^ L : Nat) : Int)) (zI_shr (n := (h + 1)) (by omega) (k := L) (by omega)) ?_
      obtain ⟨q_1, hq_1⟩ : ∃ q : Nat, q = (h + 1) / 2 ^ L := ⟨_, rfl⟩
      refine top_i (y := zI ((q_1 : Nat) : Int)) (by rw [hq_1]) ?_
      rw [← hq_1] at hdv
      refine z_iconst X dX4_put_13 ?_
      refine z_icmp_le (tgt := 23) X dX4_put_14 (by decide) (by omega) (by omega) (fun c_2 => ?_) (fun c_2 => ?_)
      · skip
        have hb1 : blen (h + 1) ≤ L + 1 := bl_end1 (by rw [← hq_1]; omega)
        have hb2 : blen (h + 1) = L + 1 := by omega
        refine lv_aload_n X.x X.b dX4_put_23 rfl (lv_at hl 1 rfl) ?_
        refine z_iconst X dX4_put_24 ?_
        refine lv_iload X.x X.b dX4_put_25 (lv_at hl 5 rfl) ?_
        refine cv_v (c1 := 0) (s1 := 0) X hw [0, 1] [] (wr := []) (va_runV (As := [.int (zI 0), .int (zI (((L : Nat) : Int)))]) (rest := []) X.fix (m_Row_put l hst D dA h0 hb (ta) bs (zI 0) L f hf (by first | omega | (simp only [List.length_append, pb_len, List.length_replicate]; omega)) _) (cwV 2 X.t (lw_V q389 q383 q384 q46 q385) rfl rfl rfl (by decide +kernel) (pc_rmle (by decide) (by decide))) (pc_preV X hw [0, 1] rfl rfl 0 0 rfl rfl rfl) rfl rfl hl.1 rfl (lv_room (Nat.le_of_ble_eq_true rfl)) dX4_put_27 ⟨Nat.le_of_ble_eq_true rfl, Nat.le_of_ble_eq_true rfl⟩) rfl rfl rfl rfl (fun _ _ => pc_c00) (fun u_4 H locs hq hw => ?_)
        have hw : pc_S D A s.heap [(h0, .inr (0, [.ref hb, .int (zI ((((bs ++ pb (zI 0) L).length : Nat) : Int))), .int (ta)])), (hb, .inl (dA 0, 400, .inl u_4))] H locs := hw
        have hu_4 := hq
        refine lv_aload_n X.x X.b dX4_put_30 rfl (lv_at hl 1 rfl) ?_
        refine lv_iload X.x X.b dX4_put_31 (lv_at hl 4 rfl) ?_
        refine lv_iload X.x X.b dX4_put_33 (lv_at hl 5 rfl) ?_
        refine z_iconst X dX4_put_35 ?_
        refine z_iadd X dX4_put_36 ?_
        refine top_i (y := zI ((L + 1 : Nat) : Int)) (congrArg zI (by omega)) ?_
        refine cv_v (c1 := 0) (s1 := 0) X hw [0, 1] [] (wr := []) (va_runV (As := [.int (zI (((h + 1 : Nat) : Int))), .int (zI (((L + 1 : Nat) : Int)))]) (rest := []) X.fix (m_Row_put l hst D dA h0 hb (ta) (bs ++ pb (zI 0) L) (zI ((h + 1 : Nat) : Int)) (L + 1) u_4 hu_4 (by first | omega | (simp only [List.length_append, pb_len, List.length_replicate]; omega)) _) (cwV 2 X.t (lw_V q389 q383 q384 q46 q385) rfl rfl rfl (by decide +kernel) (pc_rmle (by decide) (by decide))) (pc_preV X hw [0, 1] rfl rfl 0 0 rfl rfl rfl) rfl rfl hl.1 rfl (lv_room (Nat.le_of_ble_eq_true rfl)) dX4_put_37 ⟨Nat.le_of_ble_eq_true rfl, Nat.le_of_ble_eq_true rfl⟩) rfl rfl rfl rfl (fun _ _ => pc_c00) (fun u_6 H locs hq hw => ?_)
        have hw : pc_S D A s.heap [(h0, .inr (0, [.ref hb, .int (zI (((((bs ++ pb (zI 0) L) ++ pb (zI ((h + 1 : Nat) : Int)) (L + 1)).length : Nat) : Int))), .int (ta)])), (hb, .inl (dA 0, 400, .inl u_6))] H locs := hw
        have hu_6 := hq
        have e9 : (bs ++ pb (zI 0) L) ++ pb (zI ((h + 1 : Nat) : Int)) (L + 1) = bs ++ oneC 1 k h := by
          show _ = bs ++ (pb (zI 0) (blen (h + 1) - 1) ++ pb (zI ((h + 1 : Nat) : Int)) (blen (h + 1)))
          rw [hb2, List.append_assoc, Nat.add_sub_cancel]
        rw [e9] at hw hu_6
        exact exit u_6 dX4_put_40 hu_6 hw (Nat.zero_le _) (Nat.zero_le _)
      · skip
        refine z_iinc (lv' := [(5, .int (zI (((L : Nat) : Int) + 1))), (0, .ref hc), (1, .ref h0), (2, .int (zI (((h : Nat) : Int)))), (3, .int (zI (((k : Nat) : Int)))), (4, .int (zI (((h + 1 : Nat) : Int))))]) X dX4_put_17 hl (k0 := 5) rfl (by decide) rfl (fun ls hl => ?_)
        have hl : lv_has ls 6 [(5, .int (zI (((L + 1 : Nat) : Int)))), (0, .ref hc), (1, .ref h0), (2, .int (zI (((h : Nat) : Int)))), (3, .int (zI (((k : Nat) : Int)))), (4, .int (zI (((h + 1 : Nat) : Int))))] := by rw [show (((L + 1 : Nat) : Int) : Int) = ((L : Nat) : Int) + 1 from by omega]; exact hl
        refine lv_goto (tgt := 8) X.x X.b dX4_put_20 (by decide) ?_
        exact ih8  (L + 1) (bl_step1 (by rw [← hq_1]; omega)) (by omega) H locs hw ls (lv_sub hl [1, 2, 3, 4, 5, 0] rfl)
  have hl : lv_has ls 6 [(5, .int (zI 0)), (4, .int (zI (((h + 1 : Nat) : Int)))), (0, .ref hc), (1, .ref h0), (2, .int (zI (((h : Nat) : Int)))), (3, .int (zI (((k : Nat) : Int))))] := by rw [show (((h + 1 : Nat) : Int) : Int) = ((h + 1 : Nat) : Int) from by omega]; exact hl
  exact B8 _ 0 (blen_pos (by omega)) (Nat.lt_succ_self _) H locs hw ls (lv_sub hl [2, 3, 4, 5, 1, 0] rfl)
set_option maxHeartbeats 4000000 in
/-- PostingCodes$Rice.put -/
theorem m_one_put_2 (l : Launch) (hst : l.stackTraces = false) (D : va_G) (dA : Nat → ClassId) (hc h0 hb : Nat) (ta : Int32) (bs : List Bool) (h k : Nat) (f : Nat → Int32) (hf : RowIs bs f) (hlen : bs.length ≤ 900000) (hh : h ≤ 4095) (hk : k ≤ 7) : pc_V l yX5_put cX5_put 5 (pc_rm 2 0 0) D dA [.ref hc, .ref h0, .int (zI (((h : Nat) : Int))), .int (zI (((k : Nat) : Int)))] [(h0, .inr (0, [.ref hb, .int (zI (((bs.length : Nat) : Int))), .int (ta)])), (hb, .inl (dA 0, 400, .inl f))] (fun f' : Nat → Int32 => RowIs (bs ++ oneC 2 k h) f') (fun f' => [(h0, .inr (0, [.ref hb, .int (zI ((((bs ++ oneC 2 k h).length : Nat) : Int))), .int (ta)])), (hb, .inl (dA 0, 400, .inl f'))]) := by
  refine st_v hst (by decide) RX5 rfl (Nat.le_of_ble_eq_true rfl) ?_
  intro pg ev s mt args below meth cd R A Q hR X hin exit H locs hw ls hl
  subst hR
  have hl : lv_has ls 5 [(0, .ref hc), (1, .ref h0), (2, .int (zI (((h : Nat) : Int)))), (3, .int (zI (((k : Nat) : Int))))] := hl
  refine lv_iload_n X.x X.b dX5_put_0 rfl (lv_at hl 2 rfl) ?_
  refine lv_iload_n X.x X.b dX5_put_1 rfl (lv_at hl 3 rfl) ?_
  have hdv0 : h / 2 ^ k ≤ h := Nat.div_le_self _ _
  refine lv_ishr X.x X.b dX5_put_2 ?_
  refine top_i (y := zI ((h / 2 ^ k : Nat) : Int)) (zI_shr (n := h) (by omega) (k := k) (by omega)) ?_
  refine lv_istore (lv' := [(4, .int (zI (((h / 2 ^ k : Nat) : Int)))), (0, .ref hc), (1, .ref h0), (2, .int (zI (((h : Nat) : Int)))), (3, .int (zI (((k : Nat) : Int))))]) X.x X.b dX5_put_3 hl (by decide) rfl (fun ls hl => ?_)
  have B5 : ∀ (NN : Nat) (i : Nat) (j : Nat) (f : Nat → Int32) (hij : i + j = h / 2 ^ k) (hf : RowIs (bs ++ List.replicate j true) f) (hNN : i < NN) (H : Heap) (locs : List Loc), pc_S D A s.heap [(h0, .inr (0, [.ref hb, .int (zI ((((bs ++ List.replicate j true).length : Nat) : Int))), .int (ta)])), (hb, .inl (dA 0, 400, .inl f))] H locs → ∀ ls : Array Slot, lv_has ls 5 [(0, .ref hc), (1, .ref h0), (2, .int (zI (((h : Nat) : Int)))), (3, .int (zI (((k : Nat) : Int)))), (4, .int (zI (((i : Nat) : Int))))] → W pg l ev (pc_rm 2 0 0) s mt args below meth cd H locs 0 0 Q (F0 mt 5 ls []) := by
    intro NN
    induction NN with
    | zero => intro i j f hij hf hNN; exact absurd hNN (Nat.not_lt_zero _)
    | succ NN ih5 =>
      intro i j f hij hf hNN H locs hw ls hl
      have hdv : h / 2 ^ k ≤ h := Nat.div_le_self _ _
      refine lv_iload X.x X.b dX5_put_5 (lv_at hl 4 rfl) ?_
      refine z_if_le (tgt := 22) X dX5_put_7 (by decide) (by omega) (fun c_1 => ?_) (fun c_1 => ?_)
      · skip
        have hj9 : j = h / 2 ^ k := by omega
        refine lv_aload_n X.x X.b dX5_put_22 rfl (lv_at hl 1 rfl) ?_
        refine z_iconst X dX5_put_23 ?_
        refine z_iconst X dX5_put_24 ?_
        refine cv_v (c1 := 0) (s1 := 0) X hw [0, 1] [] (wr := []) (va_runV (As := [.int (zI 0), .int (zI 1)]) (rest := []) X.fix (m_Row_put l hst D dA h0 hb (ta) (bs ++ List.replicate j true) (zI 0) 1 f hf (by first | omega | (simp only [List.length_append, pb_len, List.length_replicate]; omega)) _) (cwV 2 X.t (lw_V q393 q383 q384 q46 q385) rfl rfl rfl (by decide +kernel) (pc_rmle (by decide) (by decide))) (pc_preV X hw [0, 1] rfl rfl 0 0 rfl rfl rfl) rfl rfl hl.1 rfl (lv_room (Nat.le_of_ble_eq_true rfl)) dX5_put_25 ⟨Nat.le_of_ble_eq_true rfl, Nat.le_of_ble_eq_true rfl⟩) rfl rfl rfl rfl (fun _ _ => pc_c00) (fun u_3 H locs hq hw => ?_)
        have hw : pc_S D A s.heap [(h0, .inr (0, [.ref hb, .int (zI (((((bs ++ List.replicate j true) ++ pb (zI 0) 1).length : Nat) : Int))), .int (ta)])), (hb, .inl (dA 0, 400, .inl u_3))] H locs := hw
        have hu_3 := hq
        refine lv_aload_n X.x X.b dX5_put_28 rfl (lv_at hl 1 rfl) ?_
        refine lv_iload_n X.x X.b dX5_put_29 rfl (lv_at hl 2 rfl) ?_
        refine lv_iload_n X.x X.b dX5_put_30 rfl (lv_at hl 3 rfl) ?_
        refine cv_v (c1 := 0) (s1 := 0) X hw [0, 1] [] (wr := []) (va_runV (As := [.int (zI (((h : Nat) : Int))), .int (zI (((k : Nat) : Int)))]) (rest := []) X.fix (m_Row_put l hst D dA h0 hb (ta) ((bs ++ List.replicate j true) ++ pb (zI 0) 1) (zI ((h : Nat) : Int)) k u_3 hu_3 (by first | omega | (simp only [List.length_append, pb_len, List.length_replicate]; omega)) _) (cwV 2 X.t (lw_V q393 q383 q384 q46 q385) rfl rfl rfl (by decide +kernel) (pc_rmle (by decide) (by decide))) (pc_preV X hw [0, 1] rfl rfl 0 0 rfl rfl rfl) rfl rfl hl.1 rfl (lv_room (Nat.le_of_ble_eq_true rfl)) dX5_put_31 ⟨Nat.le_of_ble_eq_true rfl, Nat.le_of_ble_eq_true rfl⟩) rfl rfl rfl rfl (fun _ _ => pc_c00) (fun u_5 H locs hq hw => ?_)
        have hw : pc_S D A s.heap [(h0, .inr (0, [.ref hb, .int (zI ((((((bs ++ List.replicate j true) ++ pb (zI 0) 1) ++ pb (zI ((h : Nat) : Int)) k).length : Nat) : Int))), .int (ta)])), (hb, .inl (dA 0, 400, .inl u_5))] H locs := hw
        have hu_5 := hq
        have e9 : ((bs ++ List.replicate j true) ++ pb (zI 0) 1) ++ pb (zI ((h : Nat) : Int)) k = bs ++ oneC 2 k h := by
          rw [hj9, List.append_assoc, List.append_assoc]; rfl
        rw [e9] at hw hu_5
        exact exit u_5 dX5_put_34 hu_5 hw (Nat.zero_le _) (Nat.zero_le _)
      · skip
        obtain ⟨i', rfl⟩ : ∃ q, i = q + 1 := ⟨i - 1, by omega⟩
        refine lv_aload_n X.x X.b dX5_put_10 rfl (lv_at hl 1 rfl) ?_
        refine z_iconst X dX5_put_11 ?_
        refine z_iconst X dX5_put_12 ?_
        refine cv_v (c1 := 0) (s1 := 0) X hw [0, 1] [] (wr := []) (va_runV (As := [.int (zI 1), .int (zI 1)]) (rest := []) X.fix (m_Row_put l hst D dA h0 hb (ta) (bs ++ List.replicate j true) (zI 1) 1 f hf (by first | omega | (simp only [List.length_append, pb_len, List.length_replicate]; omega)) _) (cwV 2 X.t (lw_V q393 q383 q384 q46 q385) rfl rfl rfl (by decide +kernel) (pc_rmle (by decide) (by decide))) (pc_preV X hw [0, 1] rfl rfl 0 0 rfl rfl rfl) rfl rfl hl.1 rfl (lv_room (Nat.le_of_ble_eq_true rfl)) dX5_put_13 ⟨Nat.le_of_ble_eq_true rfl, Nat.le_of_ble_eq_true rfl⟩) rfl rfl rfl rfl (fun _ _ => pc_c00) (fun u_7 H locs hq hw => ?_)
        have hw : pc_S D A s.heap [(h0, .inr (0, [.ref hb, .int (zI (((((bs ++ List.replicate j true) ++ pb (zI 1) 1).length : Nat) : Int))), .int (ta)])), (hb, .inl (dA 0, 400, .inl u_7))] H locs := hw
        have hu_7 := hq
        refine z_iinc (lv' := [(4, .int (zI (((i' + 1 : Nat) : Int) + (-1)))), (0, .ref hc), (1, .ref h0), (2, .int (zI (((h : Nat) : Int)))), (3, .int (zI (((k : Nat) : Int))))]) X dX5_put_16 hl (k0 := 4) rfl (by decide) rfl (fun ls hl => ?_)
        have hl : lv_has ls 5 [(4, .int (zI (((i' : Nat) : Int)))), (0, .ref hc), (1, .ref h0), (2, .int (zI (((h : Nat) : Int)))), (3, .int (zI (((k : Nat) : Int))))] := by rw [show (((i' : Nat) : Int) : Int) = ((i' + 1 : Nat) : Int) + (-1) from by omega]; exact hl
        refine lv_goto (tgt := 5) X.x X.b dX5_put_19 (by decide) ?_
        have e9 : (bs ++ List.replicate j true) ++ pb (zI 1) 1 = bs ++ List.replicate (j + 1) true := by
          rw [show pb (zI 1) 1 = [true] from pb_one, List.append_assoc, List.replicate_succ']
        rw [e9] at hw hu_7
        exact ih5  i' (j + 1) u_7 (by omega) hu_7 (by omega) H locs hw ls (lv_sub hl [1, 2, 3, 4, 0] rfl)
  have e8 : bs = bs ++ List.replicate 0 true := by simp
  rw [e8] at hw hf
  exact B5 _ (h / 2 ^ k) 0 f (Nat.add_zero _) hf (Nat.lt_succ_self _) H locs hw ls (lv_sub hl [1, 2, 3, 4, 0] rfl)
set_option maxHeartbeats 4000000 in
/-- PostingCodes$Bytes.take -/
theorem m_one_take_0 (l : Launch) (hst : l.stackTraces = false) (D : va_G) (dA : Nat → ClassId) (hc h0 hb p : Nat) (bs : List Bool) (k : Nat) (f : Nat → Int32) (hf : RowIs bs f) (hp : p ≤ bs.length) (h4 : bs.length ≤ 400) (hk : k ≤ 7) (t : Bool) (ht : t = (tkC 0 k bs p).isNone) : px_I l yX3_take (ws_ yX3_take cX3_take 6 (some .int)) (pc_rm 3 (cond t 1 0) (cond t 6 0)) D dA [.ref hc, .ref h0, .int (zI (((k : Nat) : Int)))] [(h0, .inr (0, [.ref hb, .int (zI (((bs.length : Nat) : Int))), .int (zI (((p : Nat) : Int)))])), (hb, .inl (dA 0, 400, .inl f))] (fun r (_ : Unit) => t = false ∧ r = zI (((ov (tkC 0 k bs p)).1 : Nat) : Int)) (fun _ => [(h0, .inr (0, [.ref hb, .int (zI (((bs.length : Nat) : Int))), .int (zI ((((ov (tkC 0 k bs p)).2 : Nat) : Int)))])), (hb, .inl (dA 0, 400, .inl f))]) (fun E (_ : Int32) => E = xIAE ∧ t = true) (fun ta => [(h0, .inr (0, [.ref hb, .int (zI (((bs.length : Nat) : Int))), .int (ta)])), (hb, .inl (dA 0, 400, .inl f))]) := by
  refine sx_i hst (by decide) RX3 rfl (Nat.le_of_ble_eq_true rfl) ?_
  intro pg ev s mt args below meth cd R A Q hR X exit hout hthr H locs hw ls hl
  subst hR
  have hl : lv_has ls 6 [(0, .ref hc), (1, .ref h0), (2, .int (zI (((k : Nat) : Int))))] := hl
  refine z_iconst X dX3_take_0 ?_
  refine lv_istore_n (lv' := [(3, .int (zI 0)), (0, .ref hc), (1, .ref h0), (2, .int (zI (((k : Nat) : Int))))]) X.x X.b dX3_take_1 rfl hl (by decide) rfl (fun ls hl => ?_)
  refine z_iconst X dX3_take_2 ?_
  refine lv_istore (lv' := [(4, .int (zI 0)), (3, .int (zI 0)), (0, .ref hc), (1, .ref h0), (2, .int (zI (((k : Nat) : Int))))]) X.x X.b dX3_take_3 hl (by decide) rfl (fun ls hl => ?_)
  refine z_iconst X dX3_take_5 ?_
  refine lv_istore (lv' := [(5, .int (zI 0)), (4, .int (zI 0)), (3, .int (zI 0)), (0, .ref hc), (1, .ref h0), (2, .int (zI (((k : Nat) : Int))))]) X.x X.b dX3_take_6 hl (by decide) rfl (fun ls hl => ?_)
  refine lv_iload X.x X.b dX3_take_8 (lv_at hl 0 rfl) ?_
  refine z_sipush X dX3_take_10 (by decide) ?_
  refine z_icmp_ge (tgt := 56) X dX3_take_13 (by decide) (by omega) (by omega) (fun c_1 => ?_) (fun c_1 => ?_)
  · skip
    omega
  · skip
    refine lv_iload X.x X.b dX3_take_16 (lv_at hl 1 rfl) ?_
    refine z_bipush X dX3_take_18 (by decide) ?_
    refine z_icmp_ge (tgt := 27) X dX3_take_20 (by decide) (by omega) (by omega) (fun c_2 => ?_) (fun c_2 => ?_)
    · skip
      omega
    · skip
      refine z_iconst X dX3_take_23 ?_
      refine lv_goto (tgt := 28) X.x X.b dX3_take_24 (by decide) ?_
      refine cv_v (c1 := 0) (s1 := 0) X hw [] [0, 1] (wr := [(h0, .inr (0, [.ref hb, .int (zI (((bs.length : Nat) : Int))), .int (zI (((p : Nat) : Int)))])), (hb, .inl (dA 0, 400, .inl f))]) (va_runSN (As := [.int (zI 1)]) (rest := []) X.fix (m_allow_t l hst D dA _) ⟨va_cnB 1 X.t (lw_meth q311) rfl rfl rfl (pc_nl15 X.N) (X.t _ q37) (by decide +kernel) (pc_rmle (by decide) (by decide)), X.t _ q310, trivial⟩ (pc_preS X hw [] rfl rfl) rfl rfl hl.1 rfl (lv_room (Nat.le_of_ble_eq_true rfl)) dX3_take_28 ⟨Nat.le_of_ble_eq_true rfl, Nat.le_of_ble_eq_true rfl⟩) rfl rfl rfl rfl (fun _ _ => pc_c00) (fun u_4 H locs hq hw => ?_)
      have hw : pc_S D A s.heap [(h0, .inr (0, [.ref hb, .int (zI (((bs.length : Nat) : Int))), .int (zI (((p : Nat) : Int)))])), (hb, .inl (dA 0, 400, .inl f))] H locs := hw
      refine lv_aload_n X.x X.b dX3_take_31 rfl (lv_at hl 4 rfl) ?_
      refine z_bipush X dX3_take_32 (by decide) ?_
      obtain ⟨t_5, ht_5⟩ : ∃ q : Bool, q = (decide (bs.length < p + 8)) := ⟨_, rfl⟩
      refine cx_i (c1 := 0) (s1 := 0) X hw [0, 1] [] (wr := []) (vx_runV (As := [.int (zI 8)]) (rest := []) X.fix (m_Row_take l hst D dA h0 hb p bs 8 f hf (by omega) (by omega) (by omega) t_5 ht_5 _) (cwV 1 X.t (lw_V q531 q532 q533 q46 q534) rfl rfl rfl (by decide +kernel) (pc_rmle (by decide) (by decide))) (pc_preV X hw [0, 1] rfl rfl 0 0 rfl rfl rfl) rfl rfl hl.1 rfl (lv_room (Nat.le_of_ble_eq_true rfl)) dX3_take_34 (pc_c1 (fun h => by rw [ht_5] at h; have h := of_decide_eq_true h; rw [ht]; show (tkB bs p).isNone = true; rw [tkB, if_pos (by omega)]; rfl))) rfl rfl rfl rfl (fun E ce q9 ux_8 H locs hq hw h1 h2 h3 => ?_) (fun r u hq => pc_c0 hq.1) (fun r_6 u_7 H locs hq hw => ?_)
      · skip
        have hw : pc_S D A s.heap [(h0, .inr (0, [.ref hb, .int (zI (((bs.length : Nat) : Int))), .int (ux_8)])), (hb, .inl (dA 0, 400, .inl f))] H locs := hw
        exact hout ux_8 h1 h2 h3 (⟨hq.1, (fun h => by rw [ht_5] at h; have h := of_decide_eq_true h; rw [ht]; show (tkB bs p).isNone = true; rw [tkB, if_pos (by omega)]; rfl) hq.2⟩) hw (pc_c1 (fun h => by rw [ht_5] at h; have h := of_decide_eq_true h; rw [ht]; show (tkB bs p).isNone = true; rw [tkB, if_pos (by omega)]; rfl)).1 (pc_c1 (fun h => by rw [ht_5] at h; have h := of_decide_eq_true h; rw [ht]; show (tkB bs p).isNone = true; rw [tkB, if_pos (by omega)]; rfl)).2
      · skip
        have hw : pc_S D A s.heap [(h0, .inr (0, [.ref hb, .int (zI (((bs.length : Nat) : Int))), .int (zI (((p + 8 : Nat) : Int)))])), (hb, .inl (dA 0, 400, .inl f))] H locs := hw
        obtain ⟨hq, rfl⟩ := hq
        have hq : ¬ bs.length < p + 8 := by rw [ht_5] at hq; simpa using hq
        refine top_i (y := zI ((rdN bs p 8 : Nat) : Int)) rfl ?_
        have hg0 : rdN bs p 8 < 256 := rdN_lt bs _ (w := 8) (k := 8) (Nat.le_refl _)
        refine lv_istore (lv' := [(5, .int (zI (((rdN bs p 8 : Nat) : Int)))), (4, .int (zI 0)), (3, .int (zI 0)), (0, .ref hc), (1, .ref h0), (2, .int (zI (((k : Nat) : Int))))]) X.x X.b dX3_take_37 hl (by decide) rfl (fun ls hl => ?_)
        refine lv_iload_n X.x X.b dX3_take_39 rfl (lv_at hl 2 rfl) ?_
        refine lv_iload X.x X.b dX3_take_40 (lv_at hl 0 rfl) ?_
        refine z_bipush X dX3_take_42 (by decide) ?_
        refine lv_iand X.x X.b dX3_take_44 ?_
        refine top_i (y := zI ((rdN bs p 8 % 128 : Nat) : Int)) ((zI_and (n := rdN bs p 8) (by omega) (m := 127) (by omega)).trans (congrArg (fun q : Nat => zI (q : Int)) (and127 _))) ?_
        refine lv_iload X.x X.b dX3_take_45 (lv_at hl 1 rfl) ?_
        refine lv_ishl X.x X.b dX3_take_47 ?_
        refine top_i (y := zI ((rdN bs p 8 % 128 : Nat) : Int)) ((zI_shl (n := rdN bs p 8 % 128) (by omega) (k := 0) (by omega) (by omega)).trans (congrArg (fun q : Nat => zI (q : Int)) (by omega))) ?_
        refine lv_ior X.x X.b dX3_take_48 ?_
        refine top_i (y := zI ((rdN bs p 8 % 128 : Nat) : Int)) ((zI_or (n := 0) (by omega) (m := (rdN bs p 8 % 128)) (by omega)).trans (congrArg (fun q : Nat => zI (q : Int)) (Nat.zero_or _))) ?_
        refine lv_istore_n (lv' := [(3, .int (zI (((rdN bs p 8 % 128 : Nat) : Int)))), (5, .int (zI (((rdN bs p 8 : Nat) : Int)))), (4, .int (zI 0)), (0, .ref hc), (1, .ref h0), (2, .int (zI (((k : Nat) : Int))))]) X.x X.b dX3_take_49 rfl hl (by decide) rfl (fun ls hl => ?_)
        refine z_iinc (lv' := [(4, .int (zI (0 + 7))), (3, .int (zI (((rdN bs p 8 % 128 : Nat) : Int)))), (5, .int (zI (((rdN bs p 8 : Nat) : Int)))), (0, .ref hc), (1, .ref h0), (2, .int (zI (((k : Nat) : Int))))]) X dX3_take_50 hl (k0 := 2) rfl (by decide) rfl (fun ls hl => ?_)
        refine lv_goto (tgt := 8) X.x X.b dX3_take_53 (by decide) ?_
        refine lv_iload X.x X.b dX3_take_8 (lv_at hl 2 rfl) ?_
        refine z_sipush X dX3_take_10 (by decide) ?_
        refine z_icmp_ge (tgt := 56) X dX3_take_13 (by decide) (by omega) (by omega) (fun c_9 => ?_) (fun c_9 => ?_)
        · skip
          refine lv_iload_n X.x X.b dX3_take_56 rfl (lv_at hl 1 rfl) ?_
          have e9 : tkC 0 k bs p = some (rdN bs p 8 % 128, p + 8) := by
            show tkB bs p = _
            rw [tkB, if_neg (by omega), if_pos (by omega)]
          exact exit () dX3_take_57 rfl ⟨by rw [ht, e9]; rfl, by rw [e9]; rfl⟩ (by rw [e9]; exact hw) (Nat.zero_le _) (Nat.zero_le _)
        · skip
          refine lv_iload X.x X.b dX3_take_16 (lv_at hl 0 rfl) ?_
          refine z_bipush X dX3_take_18 (by decide) ?_
          refine z_icmp_ge (tgt := 27) X dX3_take_20 (by decide) (by omega) (by omega) (fun c_10 => ?_) (fun c_10 => ?_)
          · skip
            omega
          · skip
            refine z_iconst X dX3_take_23 ?_
            refine lv_goto (tgt := 28) X.x X.b dX3_take_24 (by decide) ?_
            refine cv_v (c1 := 0) (s1 := 0) X hw [] [0, 1] (wr := [(h0, .inr (0, [.ref hb, .int (zI (((bs.length : Nat) : Int))), .int (zI (((p + 8 : Nat) : Int)))])), (hb, .inl (dA 0, 400, .inl f))]) (va_runSN (As := [.int (zI 1)]) (rest := []) X.fix (m_allow_t l hst D dA _) ⟨va_cnB 1 X.t (lw_meth q311) rfl rfl rfl (pc_nl15 X.N) (X.t _ q37) (by decide +kernel) (pc_rmle (by decide) (by decide)), X.t _ q310, trivial⟩ (pc_preS X hw [] rfl rfl) rfl rfl hl.1 rfl (lv_room (Nat.le_of_ble_eq_true rfl)) dX3_take_28 ⟨Nat.le_of_ble_eq_true rfl, Nat.le_of_ble_eq_true rfl⟩) rfl rfl rfl rfl (fun _ _ => pc_c00) (fun u_12 H locs hq hw => ?_)
            have hw : pc_S D A s.heap [(h0, .inr (0, [.ref hb, .int (zI (((bs.length : Nat) : Int))), .int (zI (((p + 8 : Nat) : Int)))])), (hb, .inl (dA 0, 400, .inl f))] H locs := hw
            refine lv_aload_n X.x X.b dX3_take_31 rfl (lv_at hl 4 rfl) ?_
            refine z_bipush X dX3_take_32 (by decide) ?_
            obtain ⟨t_13, ht_13⟩ : ∃ q : Bool, q = (decide (bs.length < (p + 8) + 8)) := ⟨_, rfl⟩
            refine cx_i (c1 := 0) (s1 := 0) X hw [0, 1] [] (wr := []) (vx_runV (As := [.int (zI 8)]) (rest := []) X.fix (m_Row_take l hst D dA h0 hb (p + 8) bs 8 f hf (by omega) (by omega) (by omega) t_13 ht_13 _) (cwV 1 X.t (lw_V q531 q532 q533 q46 q534) rfl rfl rfl (by decide +kernel) (pc_rmle (by decide) (by decide))) (pc_preV X hw [0, 1] rfl rfl 0 0 rfl rfl rfl) rfl rfl hl.1 rfl (lv_room (Nat.le_of_ble_eq_true rfl)) dX3_take_34 (pc_c1 (fun h => by rw [ht_13] at h; have h := of_decide_eq_true h; rw [ht]; show (tkB bs p).isNone = true; rw [tkB, if_neg (by omega), if_neg (by omega), if_pos (by omega)]; rfl))) rfl rfl rfl rfl (fun E ce q9 ux_16 H locs hq hw h1 h2 h3 => ?_) (fun r u hq => pc_c0 hq.1) (fun r_14 u_15 H locs hq hw => ?_)
            · skip
              have hw : pc_S D A s.heap [(h0, .inr (0, [.ref hb, .int (zI (((bs.length : Nat) : Int))), .int (ux_16)])), (hb, .inl (dA 0, 400, .inl f))] H locs := hw
              exact hout ux_16 h1 h2 h3 (⟨hq.1, (fun h => by rw [ht_13] at h; have h := of_decide_eq_true h; rw [ht]; show (tkB bs p).isNone = true; rw [tkB, if_neg (by omega), if_neg (by omega), if_pos (by omega)]; rfl) hq.2⟩) hw (pc_c1 (fun h => by rw [ht_13] at h; have h := of_decide_eq_true h; rw [ht]; show (tkB bs p).isNone = true; rw [tkB, if_neg (by omega), if_neg (by omega), if_pos (by omega)]; rfl)).1 (pc_c1 (fun h => by rw [ht_13] at h; have h := of_decide_eq_true h; rw [ht]; show (tkB bs p).isNone = true; rw [tkB, if_neg (by omega), if_neg (by omega), if_pos (by omega)]; rfl)).2
            · skip
              have hw : pc_S D A s.heap [(h0, .inr (0, [.ref hb, .int (zI (((bs.length : Nat) : Int))), .int (zI ((((p + 8) + 8 : Nat) : Int)))])), (hb, .inl (dA 0, 400, .inl f))] H locs := hw
              obtain ⟨hq, rfl⟩ := hq
              have hq : ¬ bs.length < (p + 8) + 8 := by rw [ht_13] at hq; simpa using hq
              refine top_i (y := zI ((rdN bs (p + 8) 8 : Nat) : Int)) rfl ?_
              have hg1 : rdN bs (p + 8) 8 < 256 := rdN_lt bs _ (w := 8) (k := 8) (Nat.le_refl _)
              refine lv_istore (lv' := [(5, .int (zI (((rdN bs (p + 8) 8 : Nat) : Int)))), (4, .int (zI (0 + 7))), (3, .int (zI (((rdN bs p 8 % 128 : Nat) : Int)))), (0, .ref hc), (1, .ref h0), (2, .int (zI (((k : Nat) : Int))))]) X.x X.b dX3_take_37 hl (by decide) rfl (fun ls hl => ?_)
              refine lv_iload_n X.x X.b dX3_take_39 rfl (lv_at hl 2 rfl) ?_
              refine lv_iload X.x X.b dX3_take_40 (lv_at hl 0 rfl) ?_
              refine z_bipush X dX3_take_42 (by decide) ?_
              refine lv_iand X.x X.b dX3_take_44 ?_
              refine top_i (y := zI ((rdN bs (p + 8) 8 % 128 : Nat) : Int)) ((zI_and (n := rdN bs (p + 8) 8) (by omega) (m := 127) (by omega)).trans (congrArg (fun q : Nat => zI (q : Int)) (and127 _))) ?_
              refine lv_iload X.x X.b dX3_take_45 (lv_at hl 1 rfl) ?_
              refine lv_ishl X.x X.b dX3_take_47 ?_
              refine top_i (y := zI ((rdN bs (p + 8) 8 % 128 * 128 : Nat) : Int)) ((zI_shl (n := rdN bs (p + 8) 8 % 128) (by omega) (k := 7) (by omega) (by omega)).trans (congrArg (fun q : Nat => zI (q : Int)) (by omega))) ?_
              refine lv_ior X.x X.b dX3_take_48 ?_
              refine top_i (y := zI ((rdN bs p 8 % 128 + rdN bs (p + 8) 8 % 128 * 128 : Nat) : Int)) ((zI_or (n := (rdN bs p 8 % 128)) (by omega) (m := (rdN bs (p + 8) 8 % 128 * 128)) (by omega)).trans (congrArg (fun q : Nat => zI (q : Int)) (or_shift (s := 7) (q := 128) (by omega) rfl))) ?_
              refine lv_istore_n (lv' := [(3, .int (zI (((rdN bs p 8 % 128 + rdN bs (p + 8) 8 % 128 * 128 : Nat) : Int)))), (5, .int (zI (((rdN bs (p + 8) 8 : Nat) : Int)))), (4, .int (zI (0 + 7))), (0, .ref hc), (1, .ref h0), (2, .int (zI (((k : Nat) : Int))))]) X.x X.b dX3_take_49 rfl hl (by decide) rfl (fun ls hl => ?_)
              refine z_iinc (lv' := [(4, .int (zI (0 + 7 + 7))), (3, .int (zI (((rdN bs p 8 % 128 + rdN bs (p + 8) 8 % 128 * 128 : Nat) : Int)))), (5, .int (zI (((rdN bs (p + 8) 8 : Nat) : Int)))), (0, .ref hc), (1, .ref h0), (2, .int (zI (((k : Nat) : Int))))]) X dX3_take_50 hl (k0 := 2) rfl (by decide) rfl (fun ls hl => ?_)
              refine lv_goto (tgt := 8) X.x X.b dX3_take_53 (by decide) ?_
              refine lv_iload X.x X.b dX3_take_8 (lv_at hl 2 rfl) ?_
              refine z_sipush X dX3_take_10 (by decide) ?_
              refine z_icmp_ge (tgt := 56) X dX3_take_13 (by decide) (by omega) (by omega) (fun c_17 => ?_) (fun c_17 => ?_)
              · skip
                refine lv_iload_n X.x X.b dX3_take_56 rfl (lv_at hl 1 rfl) ?_
                have e9 : tkC 0 k bs p = some (rdN bs p 8 % 128 + rdN bs (p + 8) 8 % 128 * 128, p + 8 + 8) := by
                  show tkB bs p = _
                  rw [tkB, if_neg (by omega), if_neg (by omega), if_neg (by omega), if_pos (by omega)]
                exact exit () dX3_take_57 rfl ⟨by rw [ht, e9]; rfl, by rw [e9]; rfl⟩ (by rw [e9]; exact hw) (Nat.zero_le _) (Nat.zero_le _)
              · skip
                refine lv_iload X.x X.b dX3_take_16 (lv_at hl 0 rfl) ?_
                refine z_bipush X dX3_take_18 (by decide) ?_
                refine z_icmp_ge (tgt := 27) X dX3_take_20 (by decide) (by omega) (by omega) (fun c_18 => ?_) (fun c_18 => ?_)
                · skip
                  omega
                · skip
                  refine z_iconst X dX3_take_23 ?_
                  refine lv_goto (tgt := 28) X.x X.b dX3_take_24 (by decide) ?_
                  refine cv_v (c1 := 0) (s1 := 0) X hw [] [0, 1] (wr := [(h0, .inr (0, [.ref hb, .int (zI (((bs.length : Nat) : Int))), .int (zI ((((p + 8) + 8 : Nat) : Int)))])), (hb, .inl (dA 0, 400, .inl f))]) (va_runSN (As := [.int (zI 1)]) (rest := []) X.fix (m_allow_t l hst D dA _) ⟨va_cnB 1 X.t (lw_meth q311) rfl rfl rfl (pc_nl15 X.N) (X.t _ q37) (by decide +kernel) (pc_rmle (by decide) (by decide)), X.t _ q310, trivial⟩ (pc_preS X hw [] rfl rfl) rfl rfl hl.1 rfl (lv_room (Nat.le_of_ble_eq_true rfl)) dX3_take_28 ⟨Nat.le_of_ble_eq_true rfl, Nat.le_of_ble_eq_true rfl⟩) rfl rfl rfl rfl (fun _ _ => pc_c00) (fun u_20 H locs hq hw => ?_)
                  have hw : pc_S D A s.heap [(h0, .inr (0, [.ref hb, .int (zI (((bs.length : Nat) : Int))), .int (zI ((((p + 8) + 8 : Nat) : Int)))])), (hb, .inl (dA 0, 400, .inl f))] H locs := hw
                  refine lv_aload_n X.x X.b dX3_take_31 rfl (lv_at hl 4 rfl) ?_
                  refine z_bipush X dX3_take_32 (by decide) ?_
                  obtain ⟨t_21, ht_21⟩ : ∃ q : Bool, q = (decide (bs.length < ((p + 8) + 8) + 8)) := ⟨_, rfl⟩
                  refine cx_i (c1 := 0) (s1 := 0) X hw [0, 1] [] (wr := []) (vx_runV (As := [.int (zI 8)]) (rest := []) X.fix (m_Row_take l hst D dA h0 hb ((p + 8) + 8) bs 8 f hf (by omega) (by omega) (by omega) t_21 ht_21 _) (cwV 1 X.t (lw_V q531 q532 q533 q46 q534) rfl rfl rfl (by decide +kernel) (pc_rmle (by decide) (by decide))) (pc_preV X hw [0, 1] rfl rfl 0 0 rfl rfl rfl) rfl rfl hl.1 rfl (lv_room (Nat.le_of_ble_eq_true rfl)) dX3_take_34 (pc_c1 (fun h => by rw [ht_21] at h; have h := of_decide_eq_true h; rw [ht]; show (tkB bs p).isNone = true; rw [tkB, if_neg (by omega), if_neg (by omega), if_neg (by omega), if_neg (by omega), if_pos (by omega)]; rfl))) rfl rfl rfl rfl (fun E ce q9 ux_24 H locs hq hw h1 h2 h3 => ?_) (fun r u hq => pc_c0 hq.1) (fun r_22 u_23 H locs hq hw => ?_)
                  · skip
                    have hw : pc_S D A s.heap [(h0, .inr (0, [.ref hb, .int (zI (((bs.length : Nat) : Int))), .int (ux_24)])), (hb, .inl (dA 0, 400, .inl f))] H locs := hw
                    exact hout ux_24 h1 h2 h3 (⟨hq.1, (fun h => by rw [ht_21] at h; have h := of_decide_eq_true h; rw [ht]; show (tkB bs p).isNone = true; rw [tkB, if_neg (by omega), if_neg (by omega), if_neg (by omega), if_neg (by omega), if_pos (by omega)]; rfl) hq.2⟩) hw (pc_c1 (fun h => by rw [ht_21] at h; have h := of_decide_eq_true h; rw [ht]; show (tkB bs p).isNone = true; rw [tkB, if_neg (by omega), if_neg (by omega), if_neg (by omega), if_neg (by omega), if_pos (by omega)]; rfl)).1 (pc_c1 (fun h => by rw [ht_21] at h; have h := of_decide_eq_true h; rw [ht]; show (tkB bs p).isNone = true; rw [tkB, if_neg (by omega), if_neg (by omega), if_neg (by omega), if_neg (by omega), if_pos (by omega)]; rfl)).2
                  · skip
                    have hw : pc_S D A s.heap [(h0, .inr (0, [.ref hb, .int (zI (((bs.length : Nat) : Int))), .int (zI (((((p + 8) + 8) + 8 : Nat) : Int)))])), (hb, .inl (dA 0, 400, .inl f))] H locs := hw
                    obtain ⟨hq, rfl⟩ := hq
                    have hq : ¬ bs.length < ((p + 8) + 8) + 8 := by rw [ht_21] at hq; simpa using hq
                    refine top_i (y := zI ((rdN bs (p + 8 + 8) 8 : Nat) : Int)) rfl ?_
                    have hg2 : rdN bs (p + 8 + 8) 8 < 256 := rdN_lt bs _ (w := 8) (k := 8) (Nat.le_refl _)
                    refine lv_istore (lv' := [(5, .int (zI (((rdN bs (p + 8 + 8) 8 : Nat) : Int)))), (4, .int (zI (0 + 7 + 7))), (3, .int (zI (((rdN bs p 8 % 128 + rdN bs (p + 8) 8 % 128 * 128 : Nat) : Int)))), (0, .ref hc), (1, .ref h0), (2, .int (zI (((k : Nat) : Int))))]) X.x X.b dX3_take_37 hl (by decide) rfl (fun ls hl => ?_)
                    refine lv_iload_n X.x X.b dX3_take_39 rfl (lv_at hl 2 rfl) ?_
                    refine lv_iload X.x X.b dX3_take_40 (lv_at hl 0 rfl) ?_
                    refine z_bipush X dX3_take_42 (by decide) ?_
                    refine lv_iand X.x X.b dX3_take_44 ?_
                    refine top_i (y := zI ((rdN bs (p + 8 + 8) 8 % 128 : Nat) : Int)) ((zI_and (n := rdN bs (p + 8 + 8) 8) (by omega) (m := 127) (by omega)).trans (congrArg (fun q : Nat => zI (q : Int)) (and127 _))) ?_
                    refine lv_iload X.x X.b dX3_take_45 (lv_at hl 1 rfl) ?_
                    refine lv_ishl X.x X.b dX3_take_47 ?_
                    refine top_i (y := zI ((rdN bs (p + 8 + 8) 8 % 128 * 16384 : Nat) : Int)) ((zI_shl (n := rdN bs (p + 8 + 8) 8 % 128) (by omega) (k := 14) (by omega) (by omega)).trans (congrArg (fun q : Nat => zI (q : Int)) (by omega))) ?_
                    refine lv_ior X.x X.b dX3_take_48 ?_
                    refine top_i (y := zI ((rdN bs p 8 % 128 + rdN bs (p + 8) 8 % 128 * 128 + rdN bs (p + 8 + 8) 8 % 128 * 16384 : Nat) : Int)) ((zI_or (n := (rdN bs p 8 % 128 + rdN bs (p + 8) 8 % 128 * 128)) (by omega) (m := (rdN bs (p + 8 + 8) 8 % 128 * 16384)) (by omega)).trans (congrArg (fun q : Nat => zI (q : Int)) (or_shift (s := 14) (q := 16384) (by omega) rfl))) ?_
                    refine lv_istore_n (lv' := [(3, .int (zI (((rdN bs p 8 % 128 + rdN bs (p + 8) 8 % 128 * 128 + rdN bs (p + 8 + 8) 8 % 128 * 16384 : Nat) : Int)))), (5, .int (zI (((rdN bs (p + 8 + 8) 8 : Nat) : Int)))), (4, .int (zI (0 + 7 + 7))), (0, .ref hc), (1, .ref h0), (2, .int (zI (((k : Nat) : Int))))]) X.x X.b dX3_take_49 rfl hl (by decide) rfl (fun ls hl => ?_)
                    refine z_iinc (lv' := [(4, .int (zI (0 + 7 + 7 + 7))), (3, .int (zI (((rdN bs p 8 % 128 + rdN bs (p + 8) 8 % 128 * 128 + rdN bs (p + 8 + 8) 8 % 128 * 16384 : Nat) : Int)))), (5, .int (zI (((rdN bs (p + 8 + 8) 8 : Nat) : Int)))), (0, .ref hc), (1, .ref h0), (2, .int (zI (((k : Nat) : Int))))]) X dX3_take_50 hl (k0 := 2) rfl (by decide) rfl (fun ls hl => ?_)
                    refine lv_goto (tgt := 8) X.x X.b dX3_take_53 (by decide) ?_
                    refine lv_iload X.x X.b dX3_take_8 (lv_at hl 2 rfl) ?_
                    refine z_sipush X dX3_take_10 (by decide) ?_
                    refine z_icmp_ge (tgt := 56) X dX3_take_13 (by decide) (by omega) (by omega) (fun c_25 => ?_) (fun c_25 => ?_)
                    · skip
                      refine lv_iload_n X.x X.b dX3_take_56 rfl (lv_at hl 1 rfl) ?_
                      have e9 : tkC 0 k bs p = some (rdN bs p 8 % 128 + rdN bs (p + 8) 8 % 128 * 128 + rdN bs (p + 8 + 8) 8 % 128 * 16384, p + 8 + 8 + 8) := by
                        show tkB bs p = _
                        rw [tkB, if_neg (by omega), if_neg (by omega), if_neg (by omega), if_neg (by omega), if_neg (by omega), if_pos (by omega)]
                      exact exit () dX3_take_57 rfl ⟨by rw [ht, e9]; rfl, by rw [e9]; rfl⟩ (by rw [e9]; exact hw) (Nat.zero_le _) (Nat.zero_le _)
                    · skip
                      refine lv_iload X.x X.b dX3_take_16 (lv_at hl 0 rfl) ?_
                      refine z_bipush X dX3_take_18 (by decide) ?_
                      refine z_icmp_ge (tgt := 27) X dX3_take_20 (by decide) (by omega) (by omega) (fun c_26 => ?_) (fun c_26 => ?_)
                      · skip
                        refine z_iconst X dX3_take_27 ?_
                        refine cx_v (c1 := 0) (s1 := 0) X hw [] [0, 1] (wr := [(h0, .inr (0, [.ref hb, .int (zI (((bs.length : Nat) : Int))), .int (zI (((((p + 8) + 8) + 8 : Nat) : Int)))])), (hb, .inl (dA 0, 400, .inl f))]) (vx_runSN (As := [.int (zI 0)]) (rest := []) X.fix (m_allow_f l hst D dA _) ⟨va_cnB 1 X.t (lw_meth q311) rfl rfl rfl (pc_nl15 X.N) (X.t _ q37) (by decide +kernel) (pc_rmle (by decide) (by decide)), X.t _ q310, trivial⟩ (pc_preS X hw [] rfl rfl) rfl rfl hl.1 rfl (lv_room (Nat.le_of_ble_eq_true rfl)) dX3_take_28 (pc_c2 (show t = true from by rw [ht]; show (tkB bs p).isNone = true; rw [tkB, if_neg (by omega), if_neg (by omega), if_neg (by omega), if_neg (by omega), if_neg (by omega), if_neg (by omega)]; rfl))) rfl rfl rfl rfl (fun E ce q9 ux_29 H locs hq hw h1 h2 h3 => ?_) (fun u hq => hq.elim) (fun u_28 H locs hq hw => ?_)
                        · skip
                          have hw : pc_S D A s.heap [(h0, .inr (0, [.ref hb, .int (zI (((bs.length : Nat) : Int))), .int (zI (((((p + 8) + 8) + 8 : Nat) : Int)))])), (hb, .inl (dA 0, 400, .inl f))] H locs := hw
                          have ht9 : t = true := by
                            rw [ht]
                            show (tkB bs p).isNone = true
                            rw [tkB, if_neg (by omega), if_neg (by omega), if_neg (by omega), if_neg (by omega), if_neg (by omega), if_neg (by omega)]
                            rfl
                          exact hout (zI ((p + 8 + 8 + 8 : Nat) : Int)) h1 h2 h3 ⟨hq, ht9⟩ hw (pc_c2 ht9).1 (pc_c2 ht9).2
                        · skip
                          have hw : pc_S D A s.heap [(h0, .inr (0, [.ref hb, .int (zI (((bs.length : Nat) : Int))), .int (zI (((((p + 8) + 8) + 8 : Nat) : Int)))])), (hb, .inl (dA 0, 400, .inl f))] H locs := hw
                          exact hq.elim
                      · skip
                        omega
set_option maxHeartbeats 4000000 in
/-- PostingCodes$Gamma.take -/
theorem m_one_take_1 (l : Launch) (hst : l.stackTraces = false) (D : va_G) (dA : Nat → ClassId) (hc h0 hb p : Nat) (bs : List Bool) (k : Nat) (f : Nat → Int32) (hf : RowIs bs f) (hp : p ≤ bs.length) (h4 : bs.length ≤ 400) (hk : k ≤ 7) (t : Bool) (ht : t = (tkC 1 k bs p).isNone) : px_I l yX4_take (ws_ yX4_take cX4_take 4 (some .int)) (pc_rm 4 (cond t 1 0) (cond t 6 0)) D dA [.ref hc, .ref h0, .int (zI (((k : Nat) : Int)))] [(h0, .inr (0, [.ref hb, .int (zI (((bs.length : Nat) : Int))), .int (zI (((p : Nat) : Int)))])), (hb, .inl (dA 0, 400, .inl f))] (fun r (_ : Unit) => t = false ∧ r = zI (((ov (tkC 1 k bs p)).1 : Nat) : Int)) (fun _ => [(h0, .inr (0, [.ref hb, .int (zI (((bs.length : Nat) : Int))), .int (zI ((((ov (tkC 1 k bs p)).2 : Nat) : Int)))])), (hb, .inl (dA 0, 400, .inl f))]) (fun E (_ : Int32) => E = xIAE ∧ t = true) (fun ta => [(h0, .inr (0, [.ref hb, .int (zI (((bs.length : Nat) : Int))), .int (ta)])), (hb, .inl (dA 0, 400, .inl f))]) := by
  refine sx_i hst (by decide) RX4 rfl (Nat.le_of_ble_eq_true rfl) ?_
  intro pg ev s mt args below meth cd R A Q hR X exit hout hthr H locs hw ls hl
  subst hR
  have hl : lv_has ls 4 [(0, .ref hc), (1, .ref h0), (2, .int (zI (((k : Nat) : Int))))] := hl
  refine lv_aload_n X.x X.b dX4_take_0 rfl (lv_at hl 1 rfl) ?_
  refine z_iconst X dX4_take_1 ?_
  refine z_bipush X dX4_take_2 (by decide) ?_
  obtain ⟨t_1, ht_1⟩ : ∃ q : Bool, q = (!decide (p + rl false (bs.drop p) < bs.length ∧ rl false (bs.drop p) ≤ 12)) := ⟨_, rfl⟩
  refine cx_i (c1 := 0) (s1 := 0) X hw [0, 1] [] (wr := []) (vx_runV (As := [.int (zI 0), .int (zI 12)]) (rest := []) X.fix (m_Row_run l hst D dA h0 hb p bs false 12 f hf (by omega) (by omega) (by omega) t_1 ht_1 _) (cwV 2 X.t (lw_V q539 q540 q541 q46 q542) rfl rfl rfl (by decide +kernel) (pc_rmle (by decide) (by decide))) (pc_preV X hw [0, 1] rfl rfl 0 0 rfl rfl rfl) rfl rfl hl.1 rfl (lv_room (Nat.le_of_ble_eq_true rfl)) dX4_take_4 (pc_c1 (fun h => by rw [ht_1] at h; rw [ht]; show (tkG bs p).isNone = true; rw [tkG_none (by simp at h; omega)]; rfl))) rfl rfl rfl rfl (fun E ce q9 ux_4 H locs hq hw h1 h2 h3 => ?_) (fun r u hq => pc_c0 hq.1) (fun r_2 u_3 H locs hq hw => ?_)
  · skip
    have hw : pc_S D A s.heap [(h0, .inr (0, [.ref hb, .int (zI (((bs.length : Nat) : Int))), .int (ux_4)])), (hb, .inl (dA 0, 400, .inl f))] H locs := hw
    exact hout ux_4 h1 h2 h3 (⟨hq.1, (fun h => by rw [ht_1] at h; rw [ht]; show (tkG bs p).isNone = true; rw [tkG_none (by simp at h; omega)]; rfl) hq.2⟩) hw (pc_c1 (fun h => by rw [ht_1] at h; rw [ht]; show (tkG bs p).isNone = true; rw [tkG_none (by simp at h; omega)]; rfl)).1 (pc_c1 (fun h => by rw [ht_1] at h; rw [ht]; show (tkG bs p).isNone = true; rw [tkG_none (by simp at h; omega)]; rfl)).2
  · skip
    have hw : pc_S D A s.heap [(h0, .inr (0, [.ref hb, .int (zI (((bs.length : Nat) : Int))), .int (zI (((p + rl false (bs.drop p) + 1 : Nat) : Int)))])), (hb, .inl (dA 0, 400, .inl f))] H locs := hw
    obtain ⟨hq, rfl⟩ := hq
    have hq : p + rl false (bs.drop p) < bs.length ∧ rl false (bs.drop p) ≤ 12 := by rw [ht_1] at hq; simpa using hq
    have hp2 : 2 ^ rl false (bs.drop p) ≤ 2 ^ 12 := Nat.pow_le_pow_right (by decide) (by omega)
    refine lv_istore_n (lv' := [(3, .int (zI (((rl false (bs.drop p) : Nat) : Int)))), (0, .ref hc), (1, .ref h0), (2, .int (zI (((k : Nat) : Int))))]) X.x X.b dX4_take_7 rfl hl (by decide) rfl (fun ls hl => ?_)
    refine z_iconst X dX4_take_8 ?_
    refine lv_iload_n X.x X.b dX4_take_9 rfl (lv_at hl 0 rfl) ?_
    refine lv_ishl X.x X.b dX4_take_10 ?_
    refine top_i (y := zI ((2 ^ rl false (bs.drop p) : Nat) : Int)) ((zI_shl (n := 1) (by omega) (k := rl false (bs.drop p)) (by omega) (by omega)).trans (congrArg (fun q : Nat => zI (q : Int)) (Nat.one_mul _))) ?_
    refine lv_aload_n X.x X.b dX4_take_11 rfl (lv_at hl 2 rfl) ?_
    refine lv_iload_n X.x X.b dX4_take_12 rfl (lv_at hl 0 rfl) ?_
    obtain ⟨t_5, ht_5⟩ : ∃ q : Bool, q = (decide (bs.length < (p + rl false (bs.drop p) + 1) + (rl false (bs.drop p)))) := ⟨_, rfl⟩
    refine cx_i (c1 := 0) (s1 := 0) X hw [0, 1] [] (wr := []) (vx_runV (As := [.int (zI (((rl false (bs.drop p) : Nat) : Int)))]) (rest := [.int (zI (((2 ^ rl false (bs.drop p) : Nat) : Int)))]) X.fix (m_Row_take l hst D dA h0 hb (p + rl false (bs.drop p) + 1) bs (rl false (bs.drop p)) f hf (by omega) (by omega) (by omega) t_5 ht_5 _) (cwV 1 X.t (lw_V q544 q532 q533 q46 q534) rfl rfl rfl (by decide +kernel) (pc_rmle (by decide) (by decide))) (pc_preV X hw [0, 1] rfl rfl 0 0 rfl rfl rfl) rfl rfl hl.1 rfl (lv_room (Nat.le_of_ble_eq_true rfl)) dX4_take_13 (pc_c1 (fun h => by rw [ht_5] at h; rw [ht]; show (tkG bs p).isNone = true; rw [tkG_none (by simp at h; omega)]; rfl))) rfl rfl rfl rfl (fun E ce q9 ux_8 H locs hq hw h1 h2 h3 => ?_) (fun r u hq => pc_c0 hq.1) (fun r_6 u_7 H locs hq hw => ?_)
    · skip
      have hw : pc_S D A s.heap [(h0, .inr (0, [.ref hb, .int (zI (((bs.length : Nat) : Int))), .int (ux_8)])), (hb, .inl (dA 0, 400, .inl f))] H locs := hw
      exact hout ux_8 h1 h2 h3 (⟨hq.1, (fun h => by rw [ht_5] at h; rw [ht]; show (tkG bs p).isNone = true; rw [tkG_none (by simp at h; omega)]; rfl) hq.2⟩) hw (pc_c1 (fun h => by rw [ht_5] at h; rw [ht]; show (tkG bs p).isNone = true; rw [tkG_none (by simp at h; omega)]; rfl)).1 (pc_c1 (fun h => by rw [ht_5] at h; rw [ht]; show (tkG bs p).isNone = true; rw [tkG_none (by simp at h; omega)]; rfl)).2
    · skip
      have hw : pc_S D A s.heap [(h0, .inr (0, [.ref hb, .int (zI (((bs.length : Nat) : Int))), .int (zI ((((p + rl false (bs.drop p) + 1) + (rl false (bs.drop p)) : Nat) : Int)))])), (hb, .inl (dA 0, 400, .inl f))] H locs := hw
      obtain ⟨hq, rfl⟩ := hq
      have hq : ¬ bs.length < (p + rl false (bs.drop p) + 1) + (rl false (bs.drop p)) := by rw [ht_5] at hq; simpa using hq
      refine top_i (y := zI ((rdN bs (p + rl false (bs.drop p) + 1) (rl false (bs.drop p)) : Nat) : Int)) rfl ?_
      have hg9 : rdN bs (p + rl false (bs.drop p) + 1) (rl false (bs.drop p)) < 2 ^ (rl false (bs.drop p)) := rdN_lt bs _ (Nat.le_refl _)
      have hg8 := Nat.two_pow_pos (rl false (bs.drop p))
      refine lv_ior X.x X.b dX4_take_16 ?_
      refine top_i (y := zI ((2 ^ (rl false (bs.drop p)) + rdN bs (p + rl false (bs.drop p) + 1) (rl false (bs.drop p)) : Nat) : Int)) ((zI_or (n := 2 ^ (rl false (bs.drop p))) (by omega) (m := rdN bs (p + rl false (bs.drop p) + 1) (rl false (bs.drop p))) (by omega)).trans (congrArg (fun q : Nat => zI (q : Int)) (by have := shift_or (h := rdN bs (p + rl false (bs.drop p) + 1) (rl false (bs.drop p))) (g := 1) (s := rl false (bs.drop p)) hg9; rwa [Nat.one_mul] at this))) ?_
      refine z_iconst X dX4_take_17 ?_
      refine z_isub X dX4_take_18 ?_
      refine top_i (y := zI ((2 ^ (rl false (bs.drop p)) + rdN bs (p + rl false (bs.drop p) + 1) (rl false (bs.drop p)) - 1 : Nat) : Int)) (congrArg zI (by omega)) ?_
      have e9 : tkC 1 k bs p = some (2 ^ (rl false (bs.drop p)) + rdN bs (p + rl false (bs.drop p) + 1) (rl false (bs.drop p)) - 1, p + rl false (bs.drop p) + 1 + rl false (bs.drop p)) := by
        exact tkG_some (by omega)
      exact exit () dX4_take_19 rfl ⟨by rw [ht, e9]; rfl, by rw [e9]; rfl⟩ (by rw [e9]; exact hw) (Nat.zero_le _) (Nat.zero_le _)
set_option maxHeartbeats 4000000 in
/-- PostingCodes$Rice.take -/
theorem m_one_take_2 (l : Launch) (hst : l.stackTraces = false) (D : va_G) (dA : Nat → ClassId) (hc h0 hb p : Nat) (bs : List Bool) (k : Nat) (f : Nat → Int32) (hf : RowIs bs f) (hp : p ≤ bs.length) (h4 : bs.length ≤ 400) (hk : k ≤ 7) (t : Bool) (ht : t = (tkC 2 k bs p).isNone) : px_I l yX5_take (ws_ yX5_take cX5_take 4 (some .int)) (pc_rm 4 (cond t 1 0) (cond t 6 0)) D dA [.ref hc, .ref h0, .int (zI (((k : Nat) : Int)))] [(h0, .inr (0, [.ref hb, .int (zI (((bs.length : Nat) : Int))), .int (zI (((p : Nat) : Int)))])), (hb, .inl (dA 0, 400, .inl f))] (fun r (_ : Unit) => t = false ∧ r = zI (((ov (tkC 2 k bs p)).1 : Nat) : Int)) (fun _ => [(h0, .inr (0, [.ref hb, .int (zI (((bs.length : Nat) : Int))), .int (zI ((((ov (tkC 2 k bs p)).2 : Nat) : Int)))])), (hb, .inl (dA 0, 400, .inl f))]) (fun E (_ : Int32) => E = xIAE ∧ t = true) (fun ta => [(h0, .inr (0, [.ref hb, .int (zI (((bs.length : Nat) : Int))), .int (ta)])), (hb, .inl (dA 0, 400, .inl f))]) := by
  refine sx_i hst (by decide) RX5 rfl (Nat.le_of_ble_eq_true rfl) ?_
  intro pg ev s mt args below meth cd R A Q hR X exit hout hthr H locs hw ls hl
  subst hR
  have hl : lv_has ls 4 [(0, .ref hc), (1, .ref h0), (2, .int (zI (((k : Nat) : Int))))] := hl
  refine lv_aload_n X.x X.b dX5_take_0 rfl (lv_at hl 1 rfl) ?_
  refine z_iconst X dX5_take_1 ?_
  refine z_sipush X dX5_take_2 (by decide) ?_
  obtain ⟨t_1, ht_1⟩ : ∃ q : Bool, q = (!decide (p + rl true (bs.drop p) < bs.length ∧ rl true (bs.drop p) ≤ 4095)) := ⟨_, rfl⟩
  refine cx_i (c1 := 0) (s1 := 0) X hw [0, 1] [] (wr := []) (vx_runV (As := [.int (zI 1), .int (zI 4095)]) (rest := []) X.fix (m_Row_run l hst D dA h0 hb p bs true 4095 f hf (by omega) (by omega) (by omega) t_1 ht_1 _) (cwV 2 X.t (lw_V q548 q540 q541 q46 q542) rfl rfl rfl (by decide +kernel) (pc_rmle (by decide) (by decide))) (pc_preV X hw [0, 1] rfl rfl 0 0 rfl rfl rfl) rfl rfl hl.1 rfl (lv_room (Nat.le_of_ble_eq_true rfl)) dX5_take_5 (pc_c1 (fun h => by rw [ht_1] at h; rw [ht]; show (tkR k bs p).isNone = true; rw [tkR_none (by simp at h; omega)]; rfl))) rfl rfl rfl rfl (fun E ce q9 ux_4 H locs hq hw h1 h2 h3 => ?_) (fun r u hq => pc_c0 hq.1) (fun r_2 u_3 H locs hq hw => ?_)
  · skip
    have hw : pc_S D A s.heap [(h0, .inr (0, [.ref hb, .int (zI (((bs.length : Nat) : Int))), .int (ux_4)])), (hb, .inl (dA 0, 400, .inl f))] H locs := hw
    exact hout ux_4 h1 h2 h3 (⟨hq.1, (fun h => by rw [ht_1] at h; rw [ht]; show (tkR k bs p).isNone = true; rw [tkR_none (by simp at h; omega)]; rfl) hq.2⟩) hw (pc_c1 (fun h => by rw [ht_1] at h; rw [ht]; show (tkR k bs p).isNone = true; rw [tkR_none (by simp at h; omega)]; rfl)).1 (pc_c1 (fun h => by rw [ht_1] at h; rw [ht]; show (tkR k bs p).isNone = true; rw [tkR_none (by simp at h; omega)]; rfl)).2
  · skip
    have hw : pc_S D A s.heap [(h0, .inr (0, [.ref hb, .int (zI (((bs.length : Nat) : Int))), .int (zI (((p + rl true (bs.drop p) + 1 : Nat) : Int)))])), (hb, .inl (dA 0, 400, .inl f))] H locs := hw
    obtain ⟨hq, rfl⟩ := hq
    have hq : p + rl true (bs.drop p) < bs.length ∧ rl true (bs.drop p) ≤ 4095 := by rw [ht_1] at hq; simpa using hq
    have hp2 : 2 ^ k ≤ 2 ^ 7 := Nat.pow_le_pow_right (by decide) hk
    have hp3 : rl true (bs.drop p) * 2 ^ k ≤ 400 * 2 ^ 7 := Nat.mul_le_mul (by omega) hp2
    refine lv_istore_n (lv' := [(3, .int (zI (((rl true (bs.drop p) : Nat) : Int)))), (0, .ref hc), (1, .ref h0), (2, .int (zI (((k : Nat) : Int))))]) X.x X.b dX5_take_8 rfl hl (by decide) rfl (fun ls hl => ?_)
    refine lv_iload_n X.x X.b dX5_take_9 rfl (lv_at hl 0 rfl) ?_
    refine lv_iload_n X.x X.b dX5_take_10 rfl (lv_at hl 3 rfl) ?_
    refine lv_ishl X.x X.b dX5_take_11 ?_
    refine top_i (y := zI ((rl true (bs.drop p) * 2 ^ k : Nat) : Int)) (zI_shl (n := rl true (bs.drop p)) (by omega) (k := k) (by omega) (by omega)) ?_
    refine lv_aload_n X.x X.b dX5_take_12 rfl (lv_at hl 2 rfl) ?_
    refine lv_iload_n X.x X.b dX5_take_13 rfl (lv_at hl 3 rfl) ?_
    obtain ⟨t_5, ht_5⟩ : ∃ q : Bool, q = (decide (bs.length < (p + rl true (bs.drop p) + 1) + k)) := ⟨_, rfl⟩
    refine cx_i (c1 := 0) (s1 := 0) X hw [0, 1] [] (wr := []) (vx_runV (As := [.int (zI (((k : Nat) : Int)))]) (rest := [.int (zI (((rl true (bs.drop p) * 2 ^ k : Nat) : Int)))]) X.fix (m_Row_take l hst D dA h0 hb (p + rl true (bs.drop p) + 1) bs k f hf (by omega) (by omega) (by omega) t_5 ht_5 _) (cwV 1 X.t (lw_V q549 q532 q533 q46 q534) rfl rfl rfl (by decide +kernel) (pc_rmle (by decide) (by decide))) (pc_preV X hw [0, 1] rfl rfl 0 0 rfl rfl rfl) rfl rfl hl.1 rfl (lv_room (Nat.le_of_ble_eq_true rfl)) dX5_take_14 (pc_c1 (fun h => by rw [ht_5] at h; rw [ht]; show (tkR k bs p).isNone = true; rw [tkR_none (by simp at h; omega)]; rfl))) rfl rfl rfl rfl (fun E ce q9 ux_8 H locs hq hw h1 h2 h3 => ?_) (fun r u hq => pc_c0 hq.1) (fun r_6 u_7 H locs hq hw => ?_)
    · skip
      have hw : pc_S D A s.heap [(h0, .inr (0, [.ref hb, .int (zI (((bs.length : Nat) : Int))), .int (ux_8)])), (hb, .inl (dA 0, 400, .inl f))] H locs := hw
      exact hout ux_8 h1 h2 h3 (⟨hq.1, (fun h => by rw [ht_5] at h; rw [ht]; show (tkR k bs p).isNone = true; rw [tkR_none (by simp at h; omega)]; rfl) hq.2⟩) hw (pc_c1 (fun h => by rw [ht_5] at h; rw [ht]; show (tkR k bs p).isNone = true; rw [tkR_none (by simp at h; omega)]; rfl)).1 (pc_c1 (fun h => by rw [ht_5] at h; rw [ht]; show (tkR k bs p).isNone = true; rw [tkR_none (by simp at h; omega)]; rfl)).2
    · skip
      have hw : pc_S D A s.heap [(h0, .inr (0, [.ref hb, .int (zI (((bs.length : Nat) : Int))), .int (zI ((((p + rl true (bs.drop p) + 1) + k : Nat) : Int)))])), (hb, .inl (dA 0, 400, .inl f))] H locs := hw
      obtain ⟨hq, rfl⟩ := hq
      have hq : ¬ bs.length < (p + rl true (bs.drop p) + 1) + k := by rw [ht_5] at hq; simpa using hq
      refine top_i (y := zI ((rdN bs (p + rl true (bs.drop p) + 1) k : Nat) : Int)) rfl ?_
      have hg9 : rdN bs (p + rl true (bs.drop p) + 1) k < 2 ^ k := rdN_lt bs _ (Nat.le_refl _)
      refine lv_ior X.x X.b dX5_take_17 ?_
      refine top_i (y := zI ((rl true (bs.drop p) * 2 ^ k + rdN bs (p + rl true (bs.drop p) + 1) k : Nat) : Int)) ((zI_or (n := rl true (bs.drop p) * 2 ^ k) (by omega) (m := rdN bs (p + rl true (bs.drop p) + 1) k) (by omega)).trans (congrArg (fun q : Nat => zI (q : Int)) (shift_or hg9))) ?_
      have e9 : tkC 2 k bs p = some (rl true (bs.drop p) * 2 ^ k + rdN bs (p + rl true (bs.drop p) + 1) k, p + rl true (bs.drop p) + 1 + k) := by
        exact tkR_some (by omega)
      exact exit () dX5_take_18 rfl ⟨by rw [ht, e9]; rfl, by rw [e9]; rfl⟩ (by rw [e9]; exact hw) (Nat.zero_le _) (Nat.zero_le _)
set_option maxHeartbeats 4000000 in
/-- encode by gaps, code 0 -/
theorem m_enc_0 (l : Launch) (hst : l.stackTraces = false) (D : va_G) (dA : Nat → ClassId) (hc h0 hb ha : Nat) (ta : Int32) (xs : List Nat) (k : Nat) (f g : Nat → Int32) (hv : Valid xs) (hg : ArrIs xs g) (hk : k ≤ 7) : pc_V l yX2_encode cX2_encode 6 (pc_rm 3 0 0) D dA [.ref hc, .ref h0, .ref ha, .int (zI (((xs.length : Nat) : Int))), .int (zI (((k : Nat) : Int)))] [(hc, .inr (1, [])), (h0, .inr (0, [.ref hb, .int (zI 0), .int (ta)])), (hb, .inl (dA 0, 400, .inl f)), (ha, .inl (dA 1, 24, .inl g))] (fun f' : Nat → Int32 => RowIs (encP 0 k xs xs.length) f') (fun f' => [(hc, .inr (1, [])), (h0, .inr (0, [.ref hb, .int (zI ((((encP 0 k xs xs.length).length : Nat) : Int))), .int (ta)])), (hb, .inl (dA 0, 400, .inl f')), (ha, .inl (dA 1, 24, .inl g))]) := by
  refine st_v hst (by decide) RX2 rfl (Nat.le_of_ble_eq_true rfl) ?_
  intro pg ev s mt args below meth cd R A Q hR X hin exit H locs hw ls hl
  subst hR
  have hl : lv_has ls 6 [(0, .ref hc), (1, .ref h0), (2, .ref ha), (3, .int (zI (((xs.length : Nat) : Int)))), (4, .int (zI (((k : Nat) : Int))))] := hl
  have hv1 := hv.1
  refine z_iconst X dX2_encode_0 ?_
  refine lv_istore (lv' := [(5, .int (zI 0)), (0, .ref hc), (1, .ref h0), (2, .ref ha), (3, .int (zI (((xs.length : Nat) : Int)))), (4, .int (zI (((k : Nat) : Int))))]) X.x X.b dX2_encode_1 hl (by decide) rfl (fun ls hl => ?_)
  have B3 : ∀ (NN : Nat) (i : Nat) (f : Nat → Int32) (hi : i ≤ xs.length) (hf : RowIs (encP 0 k xs i) f) (hNN : xs.length - i < NN) (H : Heap) (locs : List Loc), pc_S D A s.heap [(hc, .inr (1, [])), (h0, .inr (0, [.ref hb, .int (zI ((((encP 0 k xs i).length : Nat) : Int))), .int (ta)])), (hb, .inl (dA 0, 400, .inl f)), (ha, .inl (dA 1, 24, .inl g))] H locs → ∀ ls : Array Slot, lv_has ls 6 [(0, .ref hc), (1, .ref h0), (2, .ref ha), (3, .int (zI (((xs.length : Nat) : Int)))), (4, .int (zI (((k : Nat) : Int)))), (5, .int (zI (((i : Nat) : Int))))] → W pg l ev (pc_rm 3 0 0) s mt args below meth cd H locs 0 0 Q (F0 mt 3 ls []) := by
    intro NN
    induction NN with
    | zero => intro i f hi hf hNN; exact absurd hNN (Nat.not_lt_zero _)
    | succ NN ih3 =>
      intro i f hi hf hNN H locs hw ls hl
      have hv1 := hv.1
      have hln := encP_len (c := 0) hv hk i hi
      refine lv_iload X.x X.b dX2_encode_3 (lv_at hl 5 rfl) ?_
      refine lv_iload_n X.x X.b dX2_encode_5 rfl (lv_at hl 3 rfl) ?_
      refine z_icmp_ge (tgt := 28) X dX2_encode_6 (by decide) (by omega) (by omega) (fun c_1 => ?_) (fun c_1 => ?_)
      · skip
        obtain rfl : i = xs.length := by omega
        exact exit f dX2_encode_28 hf hw (Nat.zero_le _) (Nat.zero_le _)
      · skip
        refine lv_aload_n X.x X.b dX2_encode_9 rfl (lv_at hl 0 rfl) ?_
        refine lv_aload_n X.x X.b dX2_encode_10 rfl (lv_at hl 1 rfl) ?_
        refine lv_aload_n X.x X.b dX2_encode_11 rfl (lv_at hl 2 rfl) ?_
        refine lv_iload X.x X.b dX2_encode_12 (lv_at hl 5 rfl) ?_
        refine cv_i (c1 := 0) (s1 := 0) X hw [3] [0, 1, 2] (wr := [(hc, .inr (1, [])), (h0, .inr (0, [.ref hb, .int (zI ((((encP 0 k xs i).length : Nat) : Int))), .int (ta)])), (hb, .inl (dA 0, 400, .inl f))]) (va_runSN (As := [.ref ha, .int (zI (((i : Nat) : Int)))]) (rest := [.ref h0, .ref hc]) X.fix (m_behind l hst D dA ha xs g i hg hv (by omega) _) ⟨va_cnB 2 X.t (lw_meth q375) rfl rfl rfl (pc_nl13 X.N) (X.t _ q37) (by decide +kernel) (pc_rmle (by decide) (by decide)), X.t _ q374, trivial⟩ (pc_preS X hw [3] rfl rfl) rfl rfl hl.1 rfl (lv_room (Nat.le_of_ble_eq_true rfl)) dX2_encode_14 ⟨Nat.le_of_ble_eq_true rfl, Nat.le_of_ble_eq_true rfl⟩) rfl rfl rfl rfl (fun _ _ _ => pc_c00) (fun r_2 u_3 H locs hq hw => ?_)
        have hw : pc_S D A s.heap [(hc, .inr (1, [])), (h0, .inr (0, [.ref hb, .int (zI ((((encP 0 k xs i).length : Nat) : Int))), .int (ta)])), (hb, .inl (dA 0, 400, .inl f)), (ha, .inl (dA 1, 24, .inl g))] H locs := hw
        subst hq
        have hgp := gap_le hv (i := i) (by omega)
        refine lv_iload X.x X.b dX2_encode_17 (lv_at hl 4 rfl) ?_
        refine cv_v (c1 := 0) (s1 := 0) X hw [1, 2] [0, 3] (wr := [(hc, .inr (1, [])), (ha, .inl (dA 1, 24, .inl g))]) (va_runU (As := [.ref h0, .int (zI (((gap xs i : Nat) : Int))), .int (zI (((k : Nat) : Int)))]) (rest := []) X.fix (m_one_put_0 l hst D dA hc h0 hb (ta) (encP 0 k xs i) (gap xs i) k f hf (by omega) (by omega) (by omega) _) (va_cwA (x := (mn_ "PostingCodes$OfGaps" "put" "(LPostingCodes$Row;II)V")) (owner := "PostingCodes$OfGaps") (C := RX3) 3 X.t (lw_U q376 q378 q379 q380 q39 q381) rfl rfl rfl (pc_ndp X.N) (by decide +kernel) (pc_rmle (by decide) (by decide))) (pc_preV X hw [1, 2] rfl rfl 1 0 rfl rfl rfl) rfl rfl hl.1 rfl (lv_room (Nat.le_of_ble_eq_true rfl)) dX2_encode_19 ⟨Nat.le_of_ble_eq_true rfl, Nat.le_of_ble_eq_true rfl⟩) rfl rfl rfl rfl (fun _ _ => pc_c00) (fun u_5 H locs hq hw => ?_)
        have hw : pc_S D A s.heap [(hc, .inr (1, [])), (ha, .inl (dA 1, 24, .inl g)), (h0, .inr (0, [.ref hb, .int (zI (((((encP 0 k xs i) ++ oneC 0 k (gap xs i)).length : Nat) : Int))), .int (ta)])), (hb, .inl (dA 0, 400, .inl u_5))] H locs := hw
        have hu_5 := hq
        refine z_iinc (lv' := [(5, .int (zI (((i : Nat) : Int) + 1))), (0, .ref hc), (1, .ref h0), (2, .ref ha), (3, .int (zI (((xs.length : Nat) : Int)))), (4, .int (zI (((k : Nat) : Int))))]) X dX2_encode_22 hl (k0 := 5) rfl (by decide) rfl (fun ls hl => ?_)
        have hl : lv_has ls 6 [(5, .int (zI (((i + 1 : Nat) : Int)))), (0, .ref hc), (1, .ref h0), (2, .ref ha), (3, .int (zI (((xs.length : Nat) : Int)))), (4, .int (zI (((k : Nat) : Int))))] := by rw [show (((i + 1 : Nat) : Int) : Int) = ((i : Nat) : Int) + 1 from by omega]; exact hl
        refine lv_goto (tgt := 3) X.x X.b dX2_encode_25 (by decide) ?_
        have e9 : (encP 0 k xs i) ++ oneC 0 k (gap xs i) = encP 0 k xs (i + 1) := (encP_succ _ _ _ _).symm
        rw [e9] at hw hu_5
        exact ih3  (i + 1) u_5 (by omega) hu_5 (by omega) H locs (hw.sub [0, 2, 3, 1] rfl rfl) ls (lv_sub hl [1, 2, 3, 4, 5, 0] rfl)
  exact B3 _ 0 f (Nat.zero_le _) (RowIs.nil f) (Nat.lt_succ_self _) H locs hw ls (lv_sub hl [1, 2, 3, 4, 5, 0] rfl)
set_option maxHeartbeats 4000000 in
/-- encode by gaps, code 1 -/
theorem m_enc_1 (l : Launch) (hst : l.stackTraces = false) (D : va_G) (dA : Nat → ClassId) (hc h0 hb ha : Nat) (ta : Int32) (xs : List Nat) (k : Nat) (f g : Nat → Int32) (hv : Valid xs) (hg : ArrIs xs g) (hk : k ≤ 7) : pc_V l yX2_encode cX2_encode 6 (pc_rm 3 0 0) D dA [.ref hc, .ref h0, .ref ha, .int (zI (((xs.length : Nat) : Int))), .int (zI (((k : Nat) : Int)))] [(hc, .inr (2, [])), (h0, .inr (0, [.ref hb, .int (zI 0), .int (ta)])), (hb, .inl (dA 0, 400, .inl f)), (ha, .inl (dA 1, 24, .inl g))] (fun f' : Nat → Int32 => RowIs (encP 1 k xs xs.length) f') (fun f' => [(hc, .inr (2, [])), (h0, .inr (0, [.ref hb, .int (zI ((((encP 1 k xs xs.length).length : Nat) : Int))), .int (ta)])), (hb, .inl (dA 0, 400, .inl f')), (ha, .inl (dA 1, 24, .inl g))]) := by
  refine st_v hst (by decide) RX2 rfl (Nat.le_of_ble_eq_true rfl) ?_
  intro pg ev s mt args below meth cd R A Q hR X hin exit H locs hw ls hl
  subst hR
  have hl : lv_has ls 6 [(0, .ref hc), (1, .ref h0), (2, .ref ha), (3, .int (zI (((xs.length : Nat) : Int)))), (4, .int (zI (((k : Nat) : Int))))] := hl
  have hv1 := hv.1
  refine z_iconst X dX2_encode_0 ?_
  refine lv_istore (lv' := [(5, .int (zI 0)), (0, .ref hc), (1, .ref h0), (2, .ref ha), (3, .int (zI (((xs.length : Nat) : Int)))), (4, .int (zI (((k : Nat) : Int))))]) X.x X.b dX2_encode_1 hl (by decide) rfl (fun ls hl => ?_)
  have B3 : ∀ (NN : Nat) (i : Nat) (f : Nat → Int32) (hi : i ≤ xs.length) (hf : RowIs (encP 1 k xs i) f) (hNN : xs.length - i < NN) (H : Heap) (locs : List Loc), pc_S D A s.heap [(hc, .inr (2, [])), (h0, .inr (0, [.ref hb, .int (zI ((((encP 1 k xs i).length : Nat) : Int))), .int (ta)])), (hb, .inl (dA 0, 400, .inl f)), (ha, .inl (dA 1, 24, .inl g))] H locs → ∀ ls : Array Slot, lv_has ls 6 [(0, .ref hc), (1, .ref h0), (2, .ref ha), (3, .int (zI (((xs.length : Nat) : Int)))), (4, .int (zI (((k : Nat) : Int)))), (5, .int (zI (((i : Nat) : Int))))] → W pg l ev (pc_rm 3 0 0) s mt args below meth cd H locs 0 0 Q (F0 mt 3 ls []) := by
    intro NN
    induction NN with
    | zero => intro i f hi hf hNN; exact absurd hNN (Nat.not_lt_zero _)
    | succ NN ih3 =>
      intro i f hi hf hNN H locs hw ls hl
      have hv1 := hv.1
      have hln := encP_len (c := 1) hv hk i hi
      refine lv_iload X.x X.b dX2_encode_3 (lv_at hl 5 rfl) ?_
      refine lv_iload_n X.x X.b dX2_encode_5 rfl (lv_at hl 3 rfl) ?_
      refine z_icmp_ge (tgt := 28) X dX2_encode_6 (by decide) (by omega) (by omega) (fun c_1 => ?_) (fun c_1 => ?_)
      · skip
        obtain rfl : i = xs.length := by omega
        exact exit f dX2_encode_28 hf hw (Nat.zero_le _) (Nat.zero_le _)
      · skip
        refine lv_aload_n X.x X.b dX2_encode_9 rfl (lv_at hl 0 rfl) ?_
        refine lv_aload_n X.x X.b dX2_encode_10 rfl (lv_at hl 1 rfl) ?_
        refine lv_aload_n X.x X.b dX2_encode_11 rfl (lv_at hl 2 rfl) ?_
        refine lv_iload X.x X.b dX2_encode_12 (lv_at hl 5 rfl) ?_
        refine cv_i (c1 := 0) (s1 := 0) X hw [3] [0, 1, 2] (wr := [(hc, .inr (2, [])), (h0, .inr (0, [.ref hb, .int (zI ((((encP 1 k xs i).length : Nat) : Int))), .int (ta)])), (hb, .inl (dA 0, 400, .inl f))]) (va_runSN (As := [.ref ha, .int (zI (((i : Nat) : Int)))]) (rest := [.ref h0, .ref hc]) X.fix (m_behind l hst D dA ha xs g i hg hv (by omega) _) ⟨va_cnB 2 X.t (lw_meth q375) rfl rfl rfl (pc_nl13 X.N) (X.t _ q37) (by decide +kernel) (pc_rmle (by decide) (by decide)), X.t _ q374, trivial⟩ (pc_preS X hw [3] rfl rfl) rfl rfl hl.1 rfl (lv_room (Nat.le_of_ble_eq_true rfl)) dX2_encode_14 ⟨Nat.le_of_ble_eq_true rfl, Nat.le_of_ble_eq_true rfl⟩) rfl rfl rfl rfl (fun _ _ _ => pc_c00) (fun r_2 u_3 H locs hq hw => ?_)
        have hw : pc_S D A s.heap [(hc, .inr (2, [])), (h0, .inr (0, [.ref hb, .int (zI ((((encP 1 k xs i).length : Nat) : Int))), .int (ta)])), (hb, .inl (dA 0, 400, .inl f)), (ha, .inl (dA 1, 24, .inl g))] H locs := hw
        subst hq
        have hgp := gap_le hv (i := i) (by omega)
        refine lv_iload X.x X.b dX2_encode_17 (lv_at hl 4 rfl) ?_
        refine cv_v (c1 := 0) (s1 := 0) X hw [1, 2] [0, 3] (wr := [(hc, .inr (2, [])), (ha, .inl (dA 1, 24, .inl g))]) (va_runU (As := [.ref h0, .int (zI (((gap xs i : Nat) : Int))), .int (zI (((k : Nat) : Int)))]) (rest := []) X.fix (m_one_put_1 l hst D dA hc h0 hb (ta) (encP 1 k xs i) (gap xs i) k f hf (by omega) (by omega) (by omega) _) (va_cwA (x := (mn_ "PostingCodes$OfGaps" "put" "(LPostingCodes$Row;II)V")) (owner := "PostingCodes$OfGaps") (C := RX4) 3 X.t (lw_U q376 q378 q386 q387 q40 q388) rfl rfl rfl (pc_ndp X.N) (by decide +kernel) (pc_rmle (by decide) (by decide))) (pc_preV X hw [1, 2] rfl rfl 2 0 rfl rfl rfl) rfl rfl hl.1 rfl (lv_room (Nat.le_of_ble_eq_true rfl)) dX2_encode_19 ⟨Nat.le_of_ble_eq_true rfl, Nat.le_of_ble_eq_true rfl⟩) rfl rfl rfl rfl (fun _ _ => pc_c00) (fun u_5 H locs hq hw => ?_)
        have hw : pc_S D A s.heap [(hc, .inr (2, [])), (ha, .inl (dA 1, 24, .inl g)), (h0, .inr (0, [.ref hb, .int (zI (((((encP 1 k xs i) ++ oneC 1 k (gap xs i)).length : Nat) : Int))), .int (ta)])), (hb, .inl (dA 0, 400, .inl u_5))] H locs := hw
        have hu_5 := hq
        refine z_iinc (lv' := [(5, .int (zI (((i : Nat) : Int) + 1))), (0, .ref hc), (1, .ref h0), (2, .ref ha), (3, .int (zI (((xs.length : Nat) : Int)))), (4, .int (zI (((k : Nat) : Int))))]) X dX2_encode_22 hl (k0 := 5) rfl (by decide) rfl (fun ls hl => ?_)
        have hl : lv_has ls 6 [(5, .int (zI (((i + 1 : Nat) : Int)))), (0, .ref hc), (1, .ref h0), (2, .ref ha), (3, .int (zI (((xs.length : Nat) : Int)))), (4, .int (zI (((k : Nat) : Int))))] := by rw [show (((i + 1 : Nat) : Int) : Int) = ((i : Nat) : Int) + 1 from by omega]; exact hl
        refine lv_goto (tgt := 3) X.x X.b dX2_encode_25 (by decide) ?_
        have e9 : (encP 1 k xs i) ++ oneC 1 k (gap xs i) = encP 1 k xs (i + 1) := (encP_succ _ _ _ _).symm
        rw [e9] at hw hu_5
        exact ih3  (i + 1) u_5 (by omega) hu_5 (by omega) H locs (hw.sub [0, 2, 3, 1] rfl rfl) ls (lv_sub hl [1, 2, 3, 4, 5, 0] rfl)
  exact B3 _ 0 f (Nat.zero_le _) (RowIs.nil f) (Nat.lt_succ_self _) H locs hw ls (lv_sub hl [1, 2, 3, 4, 5, 0] rfl)
set_option maxHeartbeats 4000000 in
/-- encode by gaps, code 2 -/
theorem m_enc_2 (l : Launch) (hst : l.stackTraces = false) (D : va_G) (dA : Nat → ClassId) (hc h0 hb ha : Nat) (ta : Int32) (xs : List Nat) (k : Nat) (f g : Nat → Int32) (hv : Valid xs) (hg : ArrIs xs g) (hk : k ≤ 7) : pc_V l yX2_encode cX2_encode 6 (pc_rm 3 0 0) D dA [.ref hc, .ref h0, .ref ha, .int (zI (((xs.length : Nat) : Int))), .int (zI (((k : Nat) : Int)))] [(hc, .inr (3, [])), (h0, .inr (0, [.ref hb, .int (zI 0), .int (ta)])), (hb, .inl (dA 0, 400, .inl f)), (ha, .inl (dA 1, 24, .inl g))] (fun f' : Nat → Int32 => RowIs (encP 2 k xs xs.length) f') (fun f' => [(hc, .inr (3, [])), (h0, .inr (0, [.ref hb, .int (zI ((((encP 2 k xs xs.length).length : Nat) : Int))), .int (ta)])), (hb, .inl (dA 0, 400, .inl f')), (ha, .inl (dA 1, 24, .inl g))]) := by
  refine st_v hst (by decide) RX2 rfl (Nat.le_of_ble_eq_true rfl) ?_
  intro pg ev s mt args below meth cd R A Q hR X hin exit H locs hw ls hl
  subst hR
  have hl : lv_has ls 6 [(0, .ref hc), (1, .ref h0), (2, .ref ha), (3, .int (zI (((xs.length : Nat) : Int)))), (4, .int (zI (((k : Nat) : Int))))] := hl
  have hv1 := hv.1
  refine z_iconst X dX2_encode_0 ?_
  refine lv_istore (lv' := [(5, .int (zI 0)), (0, .ref hc), (1, .ref h0), (2, .ref ha), (3, .int (zI (((xs.length : Nat) : Int)))), (4, .int (zI (((k : Nat) : Int))))]) X.x X.b dX2_encode_1 hl (by decide) rfl (fun ls hl => ?_)
  have B3 : ∀ (NN : Nat) (i : Nat) (f : Nat → Int32) (hi : i ≤ xs.length) (hf : RowIs (encP 2 k xs i) f) (hNN : xs.length - i < NN) (H : Heap) (locs : List Loc), pc_S D A s.heap [(hc, .inr (3, [])), (h0, .inr (0, [.ref hb, .int (zI ((((encP 2 k xs i).length : Nat) : Int))), .int (ta)])), (hb, .inl (dA 0, 400, .inl f)), (ha, .inl (dA 1, 24, .inl g))] H locs → ∀ ls : Array Slot, lv_has ls 6 [(0, .ref hc), (1, .ref h0), (2, .ref ha), (3, .int (zI (((xs.length : Nat) : Int)))), (4, .int (zI (((k : Nat) : Int)))), (5, .int (zI (((i : Nat) : Int))))] → W pg l ev (pc_rm 3 0 0) s mt args below meth cd H locs 0 0 Q (F0 mt 3 ls []) := by
    intro NN
    induction NN with
    | zero => intro i f hi hf hNN; exact absurd hNN (Nat.not_lt_zero _)
    | succ NN ih3 =>
      intro i f hi hf hNN H locs hw ls hl
      have hv1 := hv.1
      have hln := encP_len (c := 2) hv hk i hi
      refine lv_iload X.x X.b dX2_encode_3 (lv_at hl 5 rfl) ?_
      refine lv_iload_n X.x X.b dX2_encode_5 rfl (lv_at hl 3 rfl) ?_
      refine z_icmp_ge (tgt := 28) X dX2_encode_6 (by decide) (by omega) (by omega) (fun c_1 => ?_) (fun c_1 => ?_)
      · skip
        obtain rfl : i = xs.length := by omega
        exact exit f dX2_encode_28 hf hw (Nat.zero_le _) (Nat.zero_le _)
      · skip
        refine lv_aload_n X.x X.b dX2_encode_9 rfl (lv_at hl 0 rfl) ?_
        refine lv_aload_n X.x X.b dX2_encode_10 rfl (lv_at hl 1 rfl) ?_
        refine lv_aload_n X.x X.b dX2_encode_11 rfl (lv_at hl 2 rfl) ?_
        refine lv_iload X.x X.b dX2_encode_12 (lv_at hl 5 rfl) ?_
        refine cv_i (c1 := 0) (s1 := 0) X hw [3] [0, 1, 2] (wr := [(hc, .inr (3, [])), (h0, .inr (0, [.ref hb, .int (zI ((((encP 2 k xs i).length : Nat) : Int))), .int (ta)])), (hb, .inl (dA 0, 400, .inl f))]) (va_runSN (As := [.ref ha, .int (zI (((i : Nat) : Int)))]) (rest := [.ref h0, .ref hc]) X.fix (m_behind l hst D dA ha xs g i hg hv (by omega) _) ⟨va_cnB 2 X.t (lw_meth q375) rfl rfl rfl (pc_nl13 X.N) (X.t _ q37) (by decide +kernel) (pc_rmle (by decide) (by decide)), X.t _ q374, trivial⟩ (pc_preS X hw [3] rfl rfl) rfl rfl hl.1 rfl (lv_room (Nat.le_of_ble_eq_true rfl)) dX2_encode_14 ⟨Nat.le_of_ble_eq_true rfl, Nat.le_of_ble_eq_true rfl⟩) rfl rfl rfl rfl (fun _ _ _ => pc_c00) (fun r_2 u_3 H locs hq hw => ?_)
        have hw : pc_S D A s.heap [(hc, .inr (3, [])), (h0, .inr (0, [.ref hb, .int (zI ((((encP 2 k xs i).length : Nat) : Int))), .int (ta)])), (hb, .inl (dA 0, 400, .inl f)), (ha, .inl (dA 1, 24, .inl g))] H locs := hw
        subst hq
        have hgp := gap_le hv (i := i) (by omega)
        refine lv_iload X.x X.b dX2_encode_17 (lv_at hl 4 rfl) ?_
        refine cv_v (c1 := 0) (s1 := 0) X hw [1, 2] [0, 3] (wr := [(hc, .inr (3, [])), (ha, .inl (dA 1, 24, .inl g))]) (va_runU (As := [.ref h0, .int (zI (((gap xs i : Nat) : Int))), .int (zI (((k : Nat) : Int)))]) (rest := []) X.fix (m_one_put_2 l hst D dA hc h0 hb (ta) (encP 2 k xs i) (gap xs i) k f hf (by omega) (by omega) (by omega) _) (va_cwA (x := (mn_ "PostingCodes$OfGaps" "put" "(LPostingCodes$Row;II)V")) (owner := "PostingCodes$OfGaps") (C := RX5) 3 X.t (lw_U q376 q378 q390 q391 q41 q392) rfl rfl rfl (pc_ndp X.N) (by decide +kernel) (pc_rmle (by decide) (by decide))) (pc_preV X hw [1, 2] rfl rfl 3 0 rfl rfl rfl) rfl rfl hl.1 rfl (lv_room (Nat.le_of_ble_eq_true rfl)) dX2_encode_19 ⟨Nat.le_of_ble_eq_true rfl, Nat.le_of_ble_eq_true rfl⟩) rfl rfl rfl rfl (fun _ _ => pc_c00) (fun u_5 H locs hq hw => ?_)
        have hw : pc_S D A s.heap [(hc, .inr (3, [])), (ha, .inl (dA 1, 24, .inl g)), (h0, .inr (0, [.ref hb, .int (zI (((((encP 2 k xs i) ++ oneC 2 k (gap xs i)).length : Nat) : Int))), .int (ta)])), (hb, .inl (dA 0, 400, .inl u_5))] H locs := hw
        have hu_5 := hq
        refine z_iinc (lv' := [(5, .int (zI (((i : Nat) : Int) + 1))), (0, .ref hc), (1, .ref h0), (2, .ref ha), (3, .int (zI (((xs.length : Nat) : Int)))), (4, .int (zI (((k : Nat) : Int))))]) X dX2_encode_22 hl (k0 := 5) rfl (by decide) rfl (fun ls hl => ?_)
        have hl : lv_has ls 6 [(5, .int (zI (((i + 1 : Nat) : Int)))), (0, .ref hc), (1, .ref h0), (2, .ref ha), (3, .int (zI (((xs.length : Nat) : Int)))), (4, .int (zI (((k : Nat) : Int))))] := by rw [show (((i + 1 : Nat) : Int) : Int) = ((i : Nat) : Int) + 1 from by omega]; exact hl
        refine lv_goto (tgt := 3) X.x X.b dX2_encode_25 (by decide) ?_
        have e9 : (encP 2 k xs i) ++ oneC 2 k (gap xs i) = encP 2 k xs (i + 1) := (encP_succ _ _ _ _).symm
        rw [e9] at hw hu_5
        exact ih3  (i + 1) u_5 (by omega) hu_5 (by omega) H locs (hw.sub [0, 2, 3, 1] rfl rfl) ls (lv_sub hl [1, 2, 3, 4, 5, 0] rfl)
  exact B3 _ 0 f (Nat.zero_le _) (RowIs.nil f) (Nat.lt_succ_self _) H locs hw ls (lv_sub hl [1, 2, 3, 4, 5, 0] rfl)
