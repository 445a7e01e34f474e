/-! ROW: its methods; allow, must, exists, behind, follow -/
set_option maxRecDepth 100000
set_option maxHeartbeats 4000000 in
/-- allow(true) -/
theorem m_allow_t (l : Launch) (hst : l.stackTraces = false) (D : va_G) (dA : Nat → ClassId)  : pc_V l yX1_allow cX1_allow 1 (pc_rm 1 0 0) D dA [.int (zI 1)] [] (fun _ : Unit => True) (fun _ => []) := by
  refine st_v hst (by decide) RX1 rfl (Nat.le_of_ble_eq_true rfl) ?_
  intro pg ev s mt args below meth cd R A Q hR X hin exit H locs hw ls hl
  subst hR
  have hl : lv_has ls 1 [(0, .int (zI 1))] := hl
  refine lv_iload_n X.x X.b dX1_allow_0 rfl (lv_at hl 0 rfl) ?_
  refine z_if_ne (tgt := 12) X dX1_allow_1 (by decide) (by decide) (fun c_1 => ?_) (fun c_1 => ?_)
  · skip
    exact exit () dX1_allow_12 trivial hw (Nat.zero_le _) (Nat.zero_le _)
  · skip
    exact absurd c_1 (by decide)
set_option maxHeartbeats 4000000 in
/-- allow(false) -/
theorem m_allow_f (l : Launch) (hst : l.stackTraces = false) (D : va_G) (dA : Nat → ClassId)  : px_V l yX1_allow (ws_ yX1_allow cX1_allow 1 none) (pc_rm 1 1 6) D dA [.int (zI 0)] [] (fun _ : Unit => False) (fun _ => []) (fun E (_ : Unit) => E = xIAE) (fun _ => []) := by
  refine sx_v hst (by decide) RX1 rfl (Nat.le_of_ble_eq_true rfl) ?_
  intro pg ev s mt args below meth cd R A Q hR X exit hout hthr H locs hw ls hl
  subst hR
  have hl : lv_has ls 1 [(0, .int (zI 0))] := hl
  refine lv_iload_n X.x X.b dX1_allow_0 rfl (lv_at hl 0 rfl) ?_
  refine z_if_ne (tgt := 12) X dX1_allow_1 (by decide) (by decide) (fun c_1 => ?_) (fun c_1 => ?_)
  · skip
    exact absurd rfl c_1
  · skip
    exact hthr pc_nm () rfl q312 q53 (pc_at0 X _ xIAE (by decide) pc_at_xIAE pc_ab_xIAE) hl.1 dX1_allow_4 dX1_allow_7 dX1_allow_8 dX1_allow_11 (by decide) (by decide) rfl hw (by decide) (by decide)
set_option maxHeartbeats 4000000 in
/-- must(true) -/
theorem m_must_t (l : Launch) (hst : l.stackTraces = false) (D : va_G) (dA : Nat → ClassId)  : pc_V l yX1_must cX1_must 1 (pc_rm 1 0 0) D dA [.int (zI 1)] [] (fun _ : Unit => True) (fun _ => []) := by
  refine st_v hst (by decide) RX1 rfl (Nat.le_of_ble_eq_true rfl) ?_
  intro pg ev s mt args below meth cd R A Q hR X hin exit H locs hw ls hl
  subst hR
  have hl : lv_has ls 1 [(0, .int (zI 1))] := hl
  refine lv_iload_n X.x X.b dX1_must_0 rfl (lv_at hl 0 rfl) ?_
  refine z_if_ne (tgt := 12) X dX1_must_1 (by decide) (by decide) (fun c_1 => ?_) (fun c_1 => ?_)
  · skip
    exact exit () dX1_must_12 trivial hw (Nat.zero_le _) (Nat.zero_le _)
  · skip
    exact absurd c_1 (by decide)
set_option maxHeartbeats 4000000 in
/-- must(false) -/
theorem m_must_f (l : Launch) (hst : l.stackTraces = false) (D : va_G) (dA : Nat → ClassId)  : px_V l yX1_must (ws_ yX1_must cX1_must 1 none) (pc_rm 1 1 6) D dA [.int (zI 0)] [] (fun _ : Unit => False) (fun _ => []) (fun E (_ : Unit) => E = xISE) (fun _ => []) := by
  refine sx_v hst (by decide) RX1 rfl (Nat.le_of_ble_eq_true rfl) ?_
  intro pg ev s mt args below meth cd R A Q hR X exit hout hthr H locs hw ls hl
  subst hR
  have hl : lv_has ls 1 [(0, .int (zI 0))] := hl
  refine lv_iload_n X.x X.b dX1_must_0 rfl (lv_at hl 0 rfl) ?_
  refine z_if_ne (tgt := 12) X dX1_must_1 (by decide) (by decide) (fun c_1 => ?_) (fun c_1 => ?_)
  · skip
    exact absurd rfl c_1
  · skip
    exact hthr pc_nm () rfl q330 q54 (pc_at0 X _ xISE (by decide) pc_at_xISE pc_ab_xISE) hl.1 dX1_must_4 dX1_must_7 dX1_must_8 dX1_must_11 (by decide) (by decide) rfl hw (by decide) (by decide)
set_option maxHeartbeats 4000000 in
/-- exists: within -/
theorem m_exists_t (l : Launch) (hst : l.stackTraces = false) (D : va_G) (dA : Nat → ClassId) (k : Int) (n : Nat) (hk : 0 ≤ k ∧ k < n) (hn : n < 1000) : pc_V l yX1_exists cX1_exists 2 (pc_rm 1 0 0) D dA [.int (zI (k)), .int (zI (((n : Nat) : Int)))] [] (fun _ : Unit => True) (fun _ => []) := by
  refine st_v hst (by decide) RX1 rfl (Nat.le_of_ble_eq_true rfl) ?_
  intro pg ev s mt args below meth cd R A Q hR X hin exit H locs hw ls hl
  subst hR
  have hl : lv_has ls 2 [(0, .int (zI (k))), (1, .int (zI (((n : Nat) : Int))))] := hl
  refine lv_iload_n X.x X.b dX1_exists_0 rfl (lv_at hl 0 rfl) ?_
  refine z_if_lt (tgt := 9) X dX1_exists_1 (by decide) (by omega) (fun c_1 => ?_) (fun c_1 => ?_)
  · skip
    omega
  · skip
    refine lv_iload_n X.x X.b dX1_exists_4 rfl (lv_at hl 0 rfl) ?_
    refine lv_iload_n X.x X.b dX1_exists_5 rfl (lv_at hl 1 rfl) ?_
    refine z_icmp_lt (tgt := 17) X dX1_exists_6 (by decide) (by omega) (by omega) (fun c_2 => ?_) (fun c_2 => ?_)
    · skip
      exact exit () dX1_exists_17 trivial hw (Nat.zero_le _) (Nat.zero_le _)
    · skip
      omega
set_option maxHeartbeats 4000000 in
/-- exists: without -/
theorem m_exists_f (l : Launch) (hst : l.stackTraces = false) (D : va_G) (dA : Nat → ClassId) (k : Int) (n : Nat) (hk : ¬ (0 ≤ k ∧ k < n)) (hr : -2147483648 ≤ k ∧ k < 2147483648) (hn : n < 1000) : px_V l yX1_exists (ws_ yX1_exists cX1_exists 2 none) (pc_rm 1 1 6) D dA [.int (zI (k)), .int (zI (((n : Nat) : Int)))] [] (fun _ : Unit => False) (fun _ => []) (fun E (_ : Unit) => E = xNSEE) (fun _ => []) := by
  refine sx_v hst (by decide) RX1 rfl (Nat.le_of_ble_eq_true rfl) ?_
  intro pg ev s mt args below meth cd R A Q hR X exit hout hthr H locs hw ls hl
  subst hR
  have hl : lv_has ls 2 [(0, .int (zI (k))), (1, .int (zI (((n : Nat) : Int))))] := hl
  refine lv_iload_n X.x X.b dX1_exists_0 rfl (lv_at hl 0 rfl) ?_
  refine z_if_lt (tgt := 9) X dX1_exists_1 (by decide) (by omega) (fun c_1 => ?_) (fun c_1 => ?_)
  · skip
    exact hthr pc_nm () rfl q242 q52 (pc_at0 X _ xNSEE (by decide) pc_at_xNSEE pc_ab_xNSEE) hl.1 dX1_exists_9 dX1_exists_12 dX1_exists_13 dX1_exists_16 (by decide) (by decide) rfl hw (by decide) (by decide)
  · skip
    refine lv_iload_n X.x X.b dX1_exists_4 rfl (lv_at hl 0 rfl) ?_
    refine lv_iload_n X.x X.b dX1_exists_5 rfl (lv_at hl 1 rfl) ?_
    refine z_icmp_lt (tgt := 17) X dX1_exists_6 (by decide) (by omega) (by omega) (fun c_2 => ?_) (fun c_2 => ?_)
    · skip
      omega
    · skip
      exact hthr pc_nm () rfl q242 q52 (pc_at0 X _ xNSEE (by decide) pc_at_xNSEE pc_ab_xNSEE) hl.1 dX1_exists_9 dX1_exists_12 dX1_exists_13 dX1_exists_16 (by decide) (by decide) rfl hw (by decide) (by decide)
set_option maxHeartbeats 4000000 in
/-- Row.begin: empty -/
theorem m_Row_begin (l : Launch) (hst : l.stackTraces = false) (D : va_G) (dA : Nat → ClassId) (h0 hb : Nat) (tm ta : Int32) : pc_V l yX10_begin cX10_begin 1 (pc_rm 1 0 0) D dA [.ref h0] [(h0, .inr (0, [.ref hb, .int (tm), .int (ta)]))] (fun _ : Unit => True) (fun _ => [(h0, .inr (0, [.ref hb, .int (zI 0), .int (zI 0)]))]) := by
  refine st_v hst (by decide) RX10 rfl (Nat.le_of_ble_eq_true rfl) ?_
  intro pg ev s mt args below meth cd R A Q hR X hin exit H locs hw ls hl
  subst hR
  have hl : lv_has ls 1 [(0, .ref h0)] := hl
  refine lv_aload_n X.x X.b dX10_begin_0 rfl (lv_at hl 0 rfl) ?_
  refine z_iconst X dX10_begin_1 ?_
  refine z_put X hw in_X10 tyX10 tyX10_ok nmX10 0 rfl rfl 1 (by decide) q141 rfl rfl rfl rfl (Nat.le_of_ble_eq_true rfl) dX10_begin_2 (fun H locs hw => ?_)
  have hw : pc_S D A s.heap [(h0, .inr (0, [.ref hb, .int (zI 0), .int (ta)]))] H locs := hw
  refine lv_aload_n X.x X.b dX10_begin_5 rfl (lv_at hl 0 rfl) ?_
  refine z_iconst X dX10_begin_6 ?_
  refine z_put X hw in_X10 tyX10 tyX10_ok nmX10 0 rfl rfl 2 (by decide) q143 rfl rfl rfl rfl (Nat.le_of_ble_eq_true rfl) dX10_begin_7 (fun H locs hw => ?_)
  have hw : pc_S D A s.heap [(h0, .inr (0, [.ref hb, .int (zI 0), .int (zI 0)]))] H locs := hw
  exact exit () dX10_begin_10 trivial hw (Nat.zero_le _) (Nat.zero_le _)
set_option maxHeartbeats 4000000 in
/-- Row.put: w bits of x behind what stands there -/
theorem m_Row_put (l : Launch) (hst : l.stackTraces = false) (D : va_G) (dA : Nat → ClassId) (h0 hb : Nat) (ta : Int32) (bs : List Bool) (x : Int32) (w : Nat) (f : Nat → Int32) (hf : RowIs bs f) (hlen : bs.length + w ≤ 1000000) : pc_V l yX10_put cX10_put 4 (pc_rm 1 0 0) D dA [.ref h0, .int (x), .int (zI (((w : Nat) : Int)))] [(h0, .inr (0, [.ref hb, .int (zI (((bs.length : Nat) : Int))), .int (ta)])), (hb, .inl (dA 0, 400, .inl f))] (fun f' : Nat → Int32 => RowIs (bs ++ pb x w) f') (fun f' => [(h0, .inr (0, [.ref hb, .int (zI ((((bs ++ pb x w).length : Nat) : Int))), .int (ta)])), (hb, .inl (dA 0, 400, .inl f'))]) := by
  refine st_v hst (by decide) RX10 rfl (Nat.le_of_ble_eq_true rfl) ?_
  intro pg ev s mt args below meth cd R A Q hR X hin exit H locs hw ls hl
  subst hR
  have hl : lv_has ls 4 [(0, .ref h0), (1, .int (x)), (2, .int (zI (((w : Nat) : Int))))] := hl
  refine lv_iload_n X.x X.b dX10_put_0 rfl (lv_at hl 2 rfl) ?_
  refine z_iconst X dX10_put_1 ?_
  refine z_isub X dX10_put_2 ?_
  refine lv_istore_n (lv' := [(3, .int (zI (((w : Nat) : Int) - 1))), (0, .ref h0), (1, .int (x)), (2, .int (zI (((w : Nat) : Int))))]) X.x X.b dX10_put_3 rfl hl (by decide) rfl (fun ls hl => ?_)
  have B4 : ∀ (NN : Nat) (r : Nat) (cs : List Bool) (f : Nat → Int32) (hr : r ≤ w) (hc : cs ++ pb x r = bs ++ pb x w) (hf : RowIs cs f) (hNN : r < NN) (H : Heap) (locs : List Loc), pc_S D A s.heap [(h0, .inr (0, [.ref hb, .int (zI (((cs.length : Nat) : Int))), .int (ta)])), (hb, .inl (dA 0, 400, .inl f))] H locs → ∀ ls : Array Slot, lv_has ls 4 [(0, .ref h0), (1, .int (x)), (2, .int (zI (((w : Nat) : Int)))), (3, .int (zI (((r : Nat) : Int) - 1)))] → W pg l ev (pc_rm 1 0 0) s mt args below meth cd H locs 0 0 Q (F0 mt 4 ls []) := by
    intro NN
    induction NN with
    | zero => intro r cs f hr hc hf hNN; exact absurd hNN (Nat.not_lt_zero _)
    | succ NN ih4 =>
      intro r cs f hr hc hf hNN H locs hw ls hl
      have hl9 : cs.length + r = bs.length + w := by
        have := congrArg List.length hc
        rw [List.length_append, List.length_append, pb_len, pb_len] at this
        exact this
      refine lv_iload_n X.x X.b dX10_put_4 rfl (lv_at hl 3 rfl) ?_
      refine z_if_lt (tgt := 49) X dX10_put_5 (by decide) (by omega) (fun c_1 => ?_) (fun c_1 => ?_)
      · skip
        obtain rfl : r = 0 := by omega
        rw [show cs = bs ++ pb x w from by rw [← hc]; simp [pb]] at hw hf
        exact exit f dX10_put_49 hf hw (Nat.zero_le _) (Nat.zero_le _)
      · skip
        obtain ⟨r', rfl⟩ : ∃ q, r = q + 1 := ⟨r - 1, by omega⟩
        have hl : lv_has ls 4 [(0, .ref h0), (1, .int (x)), (2, .int (zI (((w : Nat) : Int)))), (3, .int (zI (((r' : Nat) : Int))))] := by rw [show (((r' : Nat) : Int) : Int) = ((r' + 1 : Nat) : Int) - 1 from by omega]; exact hl
        refine lv_aload_n X.x X.b dX10_put_8 rfl (lv_at hl 0 rfl) ?_
        refine z_get X hw in_X10 0 rfl rfl 1 (by decide) q141 rfl rfl dX10_put_9 ?_
        refine z_sipush X dX10_put_12 (by decide) ?_
        refine z_icmp_ge (tgt := 33) X dX10_put_15 (by decide) (by omega) (by omega) (fun c_2 => ?_) (fun c_2 => ?_)
        · skip
          refine lv_aload_n X.x X.b dX10_put_33 rfl (lv_at hl 0 rfl) ?_
          refine lv_dup X.x X.b dX10_put_34 rfl ?_
          refine z_get X hw in_X10 0 rfl rfl 1 (by decide) q141 rfl rfl dX10_put_35 ?_
          refine z_iconst X dX10_put_38 ?_
          refine z_iadd X dX10_put_39 ?_
          refine top_i (y := zI ((cs.length + 1 : Nat) : Int)) (congrArg zI (by omega)) ?_
          refine z_put X hw in_X10 tyX10 tyX10_ok nmX10 0 rfl rfl 1 (by decide) q141 rfl rfl rfl rfl (Nat.le_of_ble_eq_true rfl) dX10_put_40 (fun H locs hw => ?_)
          have hw : pc_S D A s.heap [(h0, .inr (0, [.ref hb, .int (zI (((cs.length + 1 : Nat) : Int))), .int (ta)])), (hb, .inl (dA 0, 400, .inl f))] H locs := hw
          refine z_iinc (lv' := [(3, .int (zI (((r' : Nat) : Int) + (-1)))), (0, .ref h0), (1, .int (x)), (2, .int (zI (((w : Nat) : Int))))]) X dX10_put_43 hl (k0 := 3) rfl (by decide) rfl (fun ls hl => ?_)
          have hl : lv_has ls 4 [(3, .int (zI (((r' : Nat) : Int) - 1))), (0, .ref h0), (1, .int (x)), (2, .int (zI (((w : Nat) : Int))))] := by rw [show (((r' : Nat) : Int) - 1 : Int) = ((r' : Nat) : Int) + (-1) from by omega]; exact hl
          refine lv_goto (tgt := 4) X.x X.b dX10_put_46 (by decide) ?_
          have hw : pc_S D A s.heap [(h0, .inr (0, [.ref hb, .int (zI ((((cs ++ [ibit x r']).length : Nat) : Int))), .int (ta)])), (hb, .inl (dA 0, 400, .inl f))] H locs := by rw [show ((((cs ++ [ibit x r']).length : Nat) : Int) : Int) = ((cs.length + 1 : Nat) : Int) from by rw [List.length_append]; simp]; exact hw
          exact ih4  r' (cs ++ [ibit x r']) f (by omega) (pb_step hc) (hf.full _ (by omega)) (by omega) H locs hw ls (lv_sub hl [1, 2, 3, 0] rfl)
        · skip
          refine lv_aload_n X.x X.b dX10_put_18 rfl (lv_at hl 0 rfl) ?_
          refine z_get X hw in_X10 0 rfl rfl 0 (by decide) q140 rfl rfl dX10_put_19 ?_
          refine lv_aload_n X.x X.b dX10_put_22 rfl (lv_at hl 0 rfl) ?_
          refine z_get X hw in_X10 0 rfl rfl 1 (by decide) q141 rfl rfl dX10_put_23 ?_
          refine lv_iload_n X.x X.b dX10_put_26 rfl (lv_at hl 1 rfl) ?_
          refine lv_iload_n X.x X.b dX10_put_27 rfl (lv_at hl 3 rfl) ?_
          refine lv_ishr X.x X.b dX10_put_28 ?_
          refine z_iconst X dX10_put_29 ?_
          refine lv_iand X.x X.b dX10_put_30 ?_
          refine top_i (y := zI ((b2n (ibit x r') : Nat) : Int)) (ibit_spec x r' (by omega)) ?_
          have hb9 := b2n_le (ibit x r')
          refine lv_i2b X.x X.b dX10_put_31 (zI_byte (by omega)) ?_
          refine z_bast X hw 1 cs.length rfl (by decide) (by omega) (zI_narb (by omega)) dX10_put_32 (fun H locs hw => ?_)
          have hw : pc_S D A s.heap [(h0, .inr (0, [.ref hb, .int (zI (((cs.length : Nat) : Int))), .int (ta)])), (hb, .inl (dA 0, 400, .inl (upd f cs.length (zI ((b2n (ibit x r') : Nat) : Int)))))] H locs := hw
          refine lv_aload_n X.x X.b dX10_put_33 rfl (lv_at hl 0 rfl) ?_
          refine lv_dup X.x X.b dX10_put_34 rfl ?_
          refine z_get X hw in_X10 0 rfl rfl 1 (by decide) q141 rfl rfl dX10_put_35 ?_
          refine z_iconst X dX10_put_38 ?_
          refine z_iadd X dX10_put_39 ?_
          refine top_i (y := zI ((cs.length + 1 : Nat) : Int)) (congrArg zI (by omega)) ?_
          refine z_put X hw in_X10 tyX10 tyX10_ok nmX10 0 rfl rfl 1 (by decide) q141 rfl rfl rfl rfl (Nat.le_of_ble_eq_true rfl) dX10_put_40 (fun H locs hw => ?_)
          have hw : pc_S D A s.heap [(h0, .inr (0, [.ref hb, .int (zI (((cs.length + 1 : Nat) : Int))), .int (ta)])), (hb, .inl (dA 0, 400, .inl (upd f cs.length (zI ((b2n (ibit x r') : Nat) : Int)))))] H locs := hw
          refine z_iinc (lv' := [(3, .int (zI (((r' : Nat) : Int) + (-1)))), (0, .ref h0), (1, .int (x)), (2, .int (zI (((w : Nat) : Int))))]) X dX10_put_43 hl (k0 := 3) rfl (by decide) rfl (fun ls hl => ?_)
          have hl : lv_has ls 4 [(3, .int (zI (((r' : Nat) : Int) - 1))), (0, .ref h0), (1, .int (x)), (2, .int (zI (((w : Nat) : Int))))] := by rw [show (((r' : Nat) : Int) - 1 : Int) = ((r' : Nat) : Int) + (-1) from by omega]; exact hl
          refine lv_goto (tgt := 4) X.x X.b dX10_put_46 (by decide) ?_
          have hw : pc_S D A s.heap [(h0, .inr (0, [.ref hb, .int (zI ((((cs ++ [ibit x r']).length : Nat) : Int))), .int (ta)])), (hb, .inl (dA 0, 400, .inl (upd f cs.length (zI ((b2n (ibit x r') : Nat) : Int)))))] H locs := by rw [show ((((cs ++ [ibit x r']).length : Nat) : Int) : Int) = ((cs.length + 1 : Nat) : Int) from by rw [List.length_append]; simp]; exact hw
          exact ih4  r' (cs ++ [ibit x r']) (upd f cs.length (zI ((b2n (ibit x r') : Nat) : Int))) (by omega) (pb_step hc) (hf.push _) (by omega) H locs hw ls (lv_sub hl [1, 2, 3, 0] rfl)
  exact B4 _ w bs f (Nat.le_refl _) rfl hf (Nat.lt_succ_self _) H locs hw ls (lv_sub hl [1, 2, 3, 0] rfl)
set_option maxHeartbeats 4000000 in
/-- Row.fits -/
theorem m_Row_fits (l : Launch) (hst : l.stackTraces = false) (D : va_G) (dA : Nat → ClassId) (h0 hb : Nat) (n : Nat) (ta : Int32) (hn : n ≤ 1000000) : pc_I l yX10_fits cX10_fits 1 .boolean (pc_rm 1 0 0) D dA [.ref h0] [(h0, .inr (0, [.ref hb, .int (zI (((n : Nat) : Int))), .int (ta)]))] (fun r (_ : Unit) => r = zI ((b2n (decide (n ≤ 400)) : Nat) : Int)) (fun _ => [(h0, .inr (0, [.ref hb, .int (zI (((n : Nat) : Int))), .int (ta)]))]) := by
  refine st_i hst (by decide) RX10 rfl (Nat.le_of_ble_eq_true rfl) ?_
  intro pg ev s mt args below meth cd R A Q hR X exit H locs hw ls hl
  subst hR
  have hl : lv_has ls 1 [(0, .ref h0)] := hl
  refine lv_aload_n X.x X.b dX10_fits_0 rfl (lv_at hl 0 rfl) ?_
  refine z_get X hw in_X10 0 rfl rfl 1 (by decide) q141 rfl rfl dX10_fits_1 ?_
  refine z_sipush X dX10_fits_4 (by decide) ?_
  refine z_icmp_gt (tgt := 14) X dX10_fits_7 (by decide) (by omega) (by omega) (fun c_1 => ?_) (fun c_1 => ?_)
  · skip
    refine z_iconst X dX10_fits_14 ?_
    exact exit () dX10_fits_15 (by decide) (by rw [show decide (n ≤ 400) = false from by simp; omega]; rfl) hw (Nat.zero_le _) (Nat.zero_le _)
  · skip
    refine z_iconst X dX10_fits_10 ?_
    refine lv_goto (tgt := 15) X.x X.b dX10_fits_11 (by decide) ?_
    exact exit () dX10_fits_15 (by decide) (by rw [show decide (n ≤ 400) = true from by simp; omega]; rfl) hw (Nat.zero_le _) (Nat.zero_le _)
set_option maxHeartbeats 4000000 in
/-- Row.get -/
theorem m_Row_get (l : Launch) (hst : l.stackTraces = false) (D : va_G) (dA : Nat → ClassId) (h0 hb : Nat) (ta : Int32) (bs : List Bool) (f : Nat → Int32) (i : Nat) (hf : RowIs bs f) (hi : i < bs.length) (h4 : bs.length ≤ 400) : pc_I l yX10_get cX10_get 2 .int (pc_rm 1 0 0) D dA [.ref h0, .int (zI (((i : Nat) : Int)))] [(h0, .inr (0, [.ref hb, .int (zI (((bs.length : Nat) : Int))), .int (ta)])), (hb, .inl (dA 0, 400, .inl f))] (fun r (_ : Unit) => r = zI ((b2n (bs.getD i false) : Nat) : Int)) (fun _ => [(h0, .inr (0, [.ref hb, .int (zI (((bs.length : Nat) : Int))), .int (ta)])), (hb, .inl (dA 0, 400, .inl f))]) := by
  refine st_i hst (by decide) RX10 rfl (Nat.le_of_ble_eq_true rfl) ?_
  intro pg ev s mt args below meth cd R A Q hR X exit H locs hw ls hl
  subst hR
  have hl : lv_has ls 2 [(0, .ref h0), (1, .int (zI (((i : Nat) : Int))))] := hl
  refine lv_aload_n X.x X.b dX10_get_0 rfl (lv_at hl 0 rfl) ?_
  refine z_get X hw in_X10 0 rfl rfl 0 (by decide) q140 rfl rfl dX10_get_1 ?_
  refine lv_iload_n X.x X.b dX10_get_4 rfl (lv_at hl 1 rfl) ?_
  refine z_bald X hw 1 i rfl (by decide) (by omega) (v := zI ((b2n (bs.getD i false) : Nat) : Int)) (hf.at (by omega) (by omega)) dX10_get_5 ?_
  exact exit () dX10_get_6 rfl rfl hw (Nat.zero_le _) (Nat.zero_le _)
set_option maxHeartbeats 4000000 in
/-- Row.turn -/
theorem m_Row_turn (l : Launch) (hst : l.stackTraces = false) (D : va_G) (dA : Nat → ClassId) (h0 hb : Nat) (ta : Int32) (bs : List Bool) (f : Nat → Int32) (i : Nat) (hf : RowIs bs f) (hi : i < bs.length) (h4 : bs.length ≤ 400) : pc_V l yX10_turn cX10_turn 2 (pc_rm 1 0 0) D dA [.ref h0, .int (zI (((i : Nat) : Int)))] [(h0, .inr (0, [.ref hb, .int (zI (((bs.length : Nat) : Int))), .int (ta)])), (hb, .inl (dA 0, 400, .inl f))] (fun f' : Nat → Int32 => RowIs (bs.set i (!bs.getD i false)) f') (fun f' => [(h0, .inr (0, [.ref hb, .int (zI (((bs.length : Nat) : Int))), .int (ta)])), (hb, .inl (dA 0, 400, .inl f'))]) := by
  refine st_v hst (by decide) RX10 rfl (Nat.le_of_ble_eq_true rfl) ?_
  intro pg ev s mt args below meth cd R A Q hR X hin exit H locs hw ls hl
  subst hR
  have hl : lv_has ls 2 [(0, .ref h0), (1, .int (zI (((i : Nat) : Int))))] := hl
  refine lv_aload_n X.x X.b dX10_turn_0 rfl (lv_at hl 0 rfl) ?_
  refine z_get X hw in_X10 0 rfl rfl 0 (by decide) q140 rfl rfl dX10_turn_1 ?_
  refine lv_iload_n X.x X.b dX10_turn_4 rfl (lv_at hl 1 rfl) ?_
  refine lv_dup2_11 X.x X.b dX10_turn_5 rfl rfl ?_
  refine z_bald X hw 1 i rfl (by decide) (by omega) (v := zI ((b2n (bs.getD i false) : Nat) : Int)) (hf.at (by omega) (by omega)) dX10_turn_6 ?_
  refine z_iconst X dX10_turn_7 ?_
  refine lv_ixor X.x X.b dX10_turn_8 ?_
  refine top_i (y := zI ((b2n (!bs.getD i false) : Nat) : Int)) (xor_flip _) ?_
  have hb9 := b2n_le (!bs.getD i false)
  refine lv_i2b X.x X.b dX10_turn_9 (zI_byte (by omega)) ?_
  refine z_bast X hw 1 i rfl (by decide) (by omega) (zI_narb (by omega)) dX10_turn_10 (fun H locs hw => ?_)
  have hw : pc_S D A s.heap [(h0, .inr (0, [.ref hb, .int (zI (((bs.length : Nat) : Int))), .int (ta)])), (hb, .inl (dA 0, 400, .inl (upd f i (zI ((b2n (!bs.getD i false) : Nat) : Int)))))] H locs := hw
  exact exit (upd f i (zI ((b2n (!bs.getD i false) : Nat) : Int))) dX10_turn_11 (hf.flip hi h4) hw (Nat.zero_le _) (Nat.zero_le _)
set_option maxHeartbeats 4000000 in
/-- Row.become -/
theorem m_Row_become (l : Launch) (hst : l.stackTraces = false) (D : va_G) (dA : Nat → ClassId) (h0 hb h1 hc : Nat) (tm ta tb : Int32) (bs : List Bool) (f g : Nat → Int32) (hg : RowIs bs g) (h4 : bs.length ≤ 400) : pc_V l yX10_become cX10_become 3 (pc_rm 1 0 0) D dA [.ref h0, .ref h1] [(h0, .inr (0, [.ref hb, .int (tm), .int (ta)])), (hb, .inl (dA 0, 400, .inl f)), (h1, .inr (0, [.ref hc, .int (zI (((bs.length : Nat) : Int))), .int (tb)])), (hc, .inl (dA 0, 400, .inl g))] (fun f' : Nat → Int32 => RowIs bs f') (fun f' => [(h0, .inr (0, [.ref hb, .int (zI (((bs.length : Nat) : Int))), .int (zI 0)])), (hb, .inl (dA 0, 400, .inl f')), (h1, .inr (0, [.ref hc, .int (zI (((bs.length : Nat) : Int))), .int (tb)])), (hc, .inl (dA 0, 400, .inl g))]) := by
  refine st_v hst (by decide) RX10 rfl (Nat.le_of_ble_eq_true rfl) ?_
  intro pg ev s mt args below meth cd R A Q hR X hin exit H locs hw ls hl
  subst hR
  have hl : lv_has ls 3 [(0, .ref h0), (1, .ref h1)] := hl
  refine lv_aload_n X.x X.b dX10_become_0 rfl (lv_at hl 0 rfl) ?_
  refine lv_aload_n X.x X.b dX10_become_1 rfl (lv_at hl 1 rfl) ?_
  refine z_get X hw in_X10 2 rfl rfl 1 (by decide) q141 rfl rfl dX10_become_2 ?_
  refine z_put X hw in_X10 tyX10 tyX10_ok nmX10 0 rfl rfl 1 (by decide) q141 rfl rfl rfl rfl (Nat.le_of_ble_eq_true rfl) dX10_become_5 (fun H locs hw => ?_)
  have hw : pc_S D A s.heap [(h0, .inr (0, [.ref hb, .int (zI (((bs.length : Nat) : Int))), .int (ta)])), (hb, .inl (dA 0, 400, .inl f)), (h1, .inr (0, [.ref hc, .int (zI (((bs.length : Nat) : Int))), .int (tb)])), (hc, .inl (dA 0, 400, .inl g))] H locs := hw
  refine lv_aload_n X.x X.b dX10_become_8 rfl (lv_at hl 0 rfl) ?_
  refine z_iconst X dX10_become_9 ?_
  refine z_put X hw in_X10 tyX10 tyX10_ok nmX10 0 rfl rfl 2 (by decide) q143 rfl rfl rfl rfl (Nat.le_of_ble_eq_true rfl) dX10_become_10 (fun H locs hw => ?_)
  have hw : pc_S D A s.heap [(h0, .inr (0, [.ref hb, .int (zI (((bs.length : Nat) : Int))), .int (zI 0)])), (hb, .inl (dA 0, 400, .inl f)), (h1, .inr (0, [.ref hc, .int (zI (((bs.length : Nat) : Int))), .int (tb)])), (hc, .inl (dA 0, 400, .inl g))] H locs := hw
  refine z_iconst X dX10_become_13 ?_
  refine lv_istore_n (lv' := [(2, .int (zI 0)), (0, .ref h0), (1, .ref h1)]) X.x X.b dX10_become_14 rfl hl (by decide) rfl (fun ls hl => ?_)
  have B15 : ∀ (NN : Nat) (i : Nat) (f : Nat → Int32) (hi : i ≤ bs.length) (hf : ∀ j, j < i → f j = zI ((b2n (bs.getD j false) : Nat) : Int)) (hNN : bs.length - i < NN) (H : Heap) (locs : List Loc), pc_S D A s.heap [(h0, .inr (0, [.ref hb, .int (zI (((bs.length : Nat) : Int))), .int (zI 0)])), (hb, .inl (dA 0, 400, .inl f)), (h1, .inr (0, [.ref hc, .int (zI (((bs.length : Nat) : Int))), .int (tb)])), (hc, .inl (dA 0, 400, .inl g))] H locs → ∀ ls : Array Slot, lv_has ls 3 [(0, .ref h0), (1, .ref h1), (2, .int (zI (((i : Nat) : Int))))] → W pg l ev (pc_rm 1 0 0) s mt args below meth cd H locs 0 0 Q (F0 mt 15 ls []) := by
    intro NN
    induction NN with
    | zero => intro i f hi hf hNN; exact absurd hNN (Nat.not_lt_zero _)
    | succ NN ih15 =>
      intro i f hi hf hNN H locs hw ls hl
      refine lv_iload_n X.x X.b dX10_become_15 rfl (lv_at hl 2 rfl) ?_
      refine lv_aload_n X.x X.b dX10_become_16 rfl (lv_at hl 0 rfl) ?_
      refine z_get X hw in_X10 0 rfl rfl 1 (by decide) q141 rfl rfl dX10_become_17 ?_
      refine z_icmp_ge (tgt := 41) X dX10_become_20 (by decide) (by omega) (by omega) (fun c_1 => ?_) (fun c_1 => ?_)
      · skip
        exact exit f dX10_become_41 (fun j h4 _ => hf j (by omega)) hw (Nat.zero_le _) (Nat.zero_le _)
      · skip
        refine lv_aload_n X.x X.b dX10_become_23 rfl (lv_at hl 0 rfl) ?_
        refine z_get X hw in_X10 0 rfl rfl 0 (by decide) q140 rfl rfl dX10_become_24 ?_
        refine lv_iload_n X.x X.b dX10_become_27 rfl (lv_at hl 2 rfl) ?_
        refine lv_aload_n X.x X.b dX10_become_28 rfl (lv_at hl 1 rfl) ?_
        refine z_get X hw in_X10 2 rfl rfl 0 (by decide) q140 rfl rfl dX10_become_29 ?_
        refine lv_iload_n X.x X.b dX10_become_32 rfl (lv_at hl 2 rfl) ?_
        refine z_bald X hw 3 i rfl (by decide) (by omega) (v := zI ((b2n (bs.getD i false) : Nat) : Int)) (hg.at (by omega) (by omega)) dX10_become_33 ?_
        have hb9 := b2n_le (bs.getD i false)
        refine z_bast X hw 1 i rfl (by decide) (by omega) (zI_narb (by omega)) dX10_become_34 (fun H locs hw => ?_)
        have hw : pc_S D A s.heap [(h0, .inr (0, [.ref hb, .int (zI (((bs.length : Nat) : Int))), .int (zI 0)])), (hb, .inl (dA 0, 400, .inl (upd f i (zI ((b2n (bs.getD i false) : Nat) : Int))))), (h1, .inr (0, [.ref hc, .int (zI (((bs.length : Nat) : Int))), .int (tb)])), (hc, .inl (dA 0, 400, .inl g))] H locs := hw
        refine z_iinc (lv' := [(2, .int (zI (((i : Nat) : Int) + 1))), (0, .ref h0), (1, .ref h1)]) X dX10_become_35 hl (k0 := 2) rfl (by decide) rfl (fun ls hl => ?_)
        have hl : lv_has ls 3 [(2, .int (zI (((i + 1 : Nat) : Int)))), (0, .ref h0), (1, .ref h1)] := by rw [show (((i + 1 : Nat) : Int) : Int) = ((i : Nat) : Int) + 1 from by omega]; exact hl
        refine lv_goto (tgt := 15) X.x X.b dX10_become_38 (by decide) ?_
        exact ih15  (i + 1) (upd f i (zI ((b2n (bs.getD i false) : Nat) : Int))) (by omega) (upd_fill (g := fun j => zI ((b2n (bs.getD j false) : Nat) : Int)) hf) (by omega) H locs hw ls (lv_sub hl [1, 2, 0] rfl)
  exact B15 _ 0 f (Nat.zero_le _) (fun j h => absurd h (Nat.not_lt_zero _)) (Nat.lt_succ_self _) H locs hw ls (lv_sub hl [1, 2, 0] rfl)
set_option maxHeartbeats 4000000 in
/-- Row.same -/
theorem m_Row_same (l : Launch) (hst : l.stackTraces = false) (D : va_G) (dA : Nat → ClassId) (h0 hb h1 hc : Nat) (ta tb : Int32) (bs cs : List Bool) (f g : Nat → Int32) (hf : RowIs bs f) (hg : RowIs cs g) (h4 : cs.length ≤ 400) (h5 : bs.length ≤ 1000000) : pc_I l yX10_same cX10_same 3 .boolean (pc_rm 1 0 0) D dA [.ref h0, .ref h1] [(h0, .inr (0, [.ref hb, .int (zI (((bs.length : Nat) : Int))), .int (ta)])), (hb, .inl (dA 0, 400, .inl f)), (h1, .inr (0, [.ref hc, .int (zI (((cs.length : Nat) : Int))), .int (tb)])), (hc, .inl (dA 0, 400, .inl g))] (fun r (_ : Unit) => r = zI ((b2n (decide (bs = cs)) : Nat) : Int)) (fun _ => [(h0, .inr (0, [.ref hb, .int (zI (((bs.length : Nat) : Int))), .int (ta)])), (hb, .inl (dA 0, 400, .inl f)), (h1, .inr (0, [.ref hc, .int (zI (((cs.length : Nat) : Int))), .int (tb)])), (hc, .inl (dA 0, 400, .inl g))]) := by
  refine st_i hst (by decide) RX10 rfl (Nat.le_of_ble_eq_true rfl) ?_
  intro pg ev s mt args below meth cd R A Q hR X exit H locs hw ls hl
  subst hR
  have hl : lv_has ls 3 [(0, .ref h0), (1, .ref h1)] := hl
  refine lv_aload_n X.x X.b dX10_same_0 rfl (lv_at hl 0 rfl) ?_
  refine z_get X hw in_X10 0 rfl rfl 1 (by decide) q141 rfl rfl dX10_same_1 ?_
  refine lv_aload_n X.x X.b dX10_same_4 rfl (lv_at hl 1 rfl) ?_
  refine z_get X hw in_X10 2 rfl rfl 1 (by decide) q141 rfl rfl dX10_same_5 ?_
  refine z_icmp_eq (tgt := 13) X dX10_same_8 (by decide) (by omega) (by omega) (fun c_1 => ?_) (fun c_1 => ?_)
  · skip
    refine z_iconst X dX10_same_13 ?_
    refine lv_istore_n (lv' := [(2, .int (zI 0)), (0, .ref h0), (1, .ref h1)]) X.x X.b dX10_same_14 rfl hl (by decide) rfl (fun ls hl => ?_)
    have B15 : ∀ (NN : Nat) (i : Nat) (hi : i ≤ bs.length) (hlen : bs.length = cs.length) (he : ∀ j, j < i → bs.getD j false = cs.getD j false) (hNN : bs.length - i < NN) (H : Heap) (locs : List Loc), pc_S D A s.heap [(h0, .inr (0, [.ref hb, .int (zI (((bs.length : Nat) : Int))), .int (ta)])), (hb, .inl (dA 0, 400, .inl f)), (h1, .inr (0, [.ref hc, .int (zI (((cs.length : Nat) : Int))), .int (tb)])), (hc, .inl (dA 0, 400, .inl g))] H locs → ∀ ls : Array Slot, lv_has ls 3 [(0, .ref h0), (1, .ref h1), (2, .int (zI (((i : Nat) : Int))))] → W pg l ev (pc_rm 1 0 0) s mt args below meth cd H locs 0 0 Q (F0 mt 15 ls []) := by
      intro NN
      induction NN with
      | zero => intro i hi hlen he hNN; exact absurd hNN (Nat.not_lt_zero _)
      | succ NN ih15 =>
        intro i hi hlen he hNN H locs hw ls hl
        refine lv_iload_n X.x X.b dX10_same_15 rfl (lv_at hl 2 rfl) ?_
        refine lv_aload_n X.x X.b dX10_same_16 rfl (lv_at hl 0 rfl) ?_
        refine z_get X hw in_X10 0 rfl rfl 1 (by decide) q141 rfl rfl dX10_same_17 ?_
        refine z_icmp_ge (tgt := 46) X dX10_same_20 (by decide) (by omega) (by omega) (fun c_2 => ?_) (fun c_2 => ?_)
        · skip
          refine z_iconst X dX10_same_46 ?_
          exact exit () dX10_same_47 (by decide) (by rw [show decide (bs = cs) = true from by simp; exact list_eq_of hlen (fun j h => he j (by omega))]; rfl) hw (Nat.zero_le _) (Nat.zero_le _)
        · skip
          refine lv_aload_n X.x X.b dX10_same_23 rfl (lv_at hl 0 rfl) ?_
          refine z_get X hw in_X10 0 rfl rfl 0 (by decide) q140 rfl rfl dX10_same_24 ?_
          refine lv_iload_n X.x X.b dX10_same_27 rfl (lv_at hl 2 rfl) ?_
          refine z_bald X hw 1 i rfl (by decide) (by omega) (v := zI ((b2n (bs.getD i false) : Nat) : Int)) (hf _ (by omega) (by omega)) dX10_same_28 ?_
          refine lv_aload_n X.x X.b dX10_same_29 rfl (lv_at hl 1 rfl) ?_
          refine z_get X hw in_X10 2 rfl rfl 0 (by decide) q140 rfl rfl dX10_same_30 ?_
          refine lv_iload_n X.x X.b dX10_same_33 rfl (lv_at hl 2 rfl) ?_
          refine z_bald X hw 3 i rfl (by decide) (by omega) (v := zI ((b2n (cs.getD i false) : Nat) : Int)) (hg _ (by omega) (by omega)) dX10_same_34 ?_
          have hb8 := b2n_le (bs.getD i false)
          have hb9 := b2n_le (cs.getD i false)
          refine z_icmp_eq (tgt := 40) X dX10_same_35 (by decide) (by omega) (by omega) (fun c_3 => ?_) (fun c_3 => ?_)
          · skip
            have he2 : bs.getD i false = cs.getD i false := b2n_inj.mp (by omega)
            refine z_iinc (lv' := [(2, .int (zI (((i : Nat) : Int) + 1))), (0, .ref h0), (1, .ref h1)]) X dX10_same_40 hl (k0 := 2) rfl (by decide) rfl (fun ls hl => ?_)
            have hl : lv_has ls 3 [(2, .int (zI (((i + 1 : Nat) : Int)))), (0, .ref h0), (1, .ref h1)] := by rw [show (((i + 1 : Nat) : Int) : Int) = ((i : Nat) : Int) + 1 from by omega]; exact hl
            refine lv_goto (tgt := 15) X.x X.b dX10_same_43 (by decide) ?_
            exact ih15  (i + 1) (by omega) hlen (fun j h => by
                by_cases e : j = i
                · rw [e]; exact he2
                · exact he j (by omega)) (by omega) H locs hw ls (lv_sub hl [1, 2, 0] rfl)
          · skip
            refine z_iconst X dX10_same_38 ?_
            exact exit () dX10_same_39 (by decide) (by rw [show decide (bs = cs) = false from by simp; intro q; rw [q] at c_3; exact c_3 rfl]; rfl) hw (Nat.zero_le _) (Nat.zero_le _)
    exact B15 _ 0 (Nat.zero_le _) (by omega) (fun j h => absurd h (Nat.not_lt_zero _)) (Nat.lt_succ_self _) H locs hw ls (lv_sub hl [1, 2, 0] rfl)
  · skip
    refine z_iconst X dX10_same_11 ?_
    exact exit () dX10_same_12 (by decide) (by rw [show decide (bs = cs) = false from by simp; intro q; rw [q] at c_1; exact c_1 rfl]; rfl) hw (Nat.zero_le _) (Nat.zero_le _)
set_option maxHeartbeats 4000000 in
/-- Row.take: w bits, if they stand there -/
theorem m_Row_take (l : Launch) (hst : l.stackTraces = false) (D : va_G) (dA : Nat → ClassId) (h0 hb : Nat) (p : Nat) (bs : List Bool) (w : Nat) (f : Nat → Int32) (hf : RowIs bs f) (hp : p ≤ bs.length) (h4 : bs.length ≤ 400) (hw20 : w ≤ 20) (t : Bool) (ht : t = (decide (bs.length < p + w))) : px_I l yX10_take (ws_ yX10_take cX10_take 4 (some .int)) (pc_rm 2 (cond t 1 0) (cond t 6 0)) D dA [.ref h0, .int (zI (((w : Nat) : Int)))] [(h0, .inr (0, [.ref hb, .int (zI (((bs.length : Nat) : Int))), .int (zI (((p : Nat) : Int)))])), (hb, .inl (dA 0, 400, .inl f))] (fun r (_ : Unit) => t = false ∧ r = zI ((bval ((bs.drop p).take w) : Nat) : Int)) (fun _ => [(h0, .inr (0, [.ref hb, .int (zI (((bs.length : Nat) : Int))), .int (zI (((p + w : Nat) : Int)))])), (hb, .inl (dA 0, 400, .inl f))]) (fun E (_ : Int32) => E = xIAE ∧ t = true) (fun ta => [(h0, .inr (0, [.ref hb, .int (zI (((bs.length : Nat) : Int))), .int (ta)])), (hb, .inl (dA 0, 400, .inl f))]) := by
  refine sx_i hst (by decide) RX10 rfl (Nat.le_of_ble_eq_true rfl) ?_
  intro pg ev s mt args below meth cd R A Q hR X exit hout hthr H locs hw ls hl
  subst hR
  have hl : lv_has ls 4 [(0, .ref h0), (1, .int (zI (((w : Nat) : Int))))] := hl
  refine z_iconst X dX10_take_0 ?_
  refine lv_istore_n (lv' := [(2, .int (zI 0)), (0, .ref h0), (1, .int (zI (((w : Nat) : Int))))]) X.x X.b dX10_take_1 rfl hl (by decide) rfl (fun ls hl => ?_)
  refine z_iconst X dX10_take_2 ?_
  refine lv_istore_n (lv' := [(3, .int (zI 0)), (2, .int (zI 0)), (0, .ref h0), (1, .int (zI (((w : Nat) : Int))))]) X.x X.b dX10_take_3 rfl hl (by decide) rfl (fun ls hl => ?_)
  have B4 : ∀ (NN : Nat) (i : Nat) (hi : i ≤ w) (hpi : p + i ≤ bs.length) (hNN : w - i < NN) (H : Heap) (locs : List Loc), pc_S D A s.heap [(h0, .inr (0, [.ref hb, .int (zI (((bs.length : Nat) : Int))), .int (zI (((p + i : Nat) : Int)))])), (hb, .inl (dA 0, 400, .inl f))] H locs → ∀ ls : Array Slot, lv_has ls 4 [(0, .ref h0), (1, .int (zI (((w : Nat) : Int)))), (2, .int (zI (((bval ((bs.drop p).take i) : Nat) : Int)))), (3, .int (zI (((i : Nat) : Int))))] → W pg l ev (pc_rm 2 (cond t 1 0) (cond t 6 0)) s mt args below meth cd H locs 0 0 Q (F0 mt 4 ls []) := by
    intro NN
    induction NN with
    | zero => intro i hi hpi hNN; exact absurd hNN (Nat.not_lt_zero _)
    | succ NN ih4 =>
      intro i hi hpi hNN H locs hw ls hl
      have hv9 : bval ((bs.drop p).take i) < 1048576 := bval_small bs p (k := 20) (by omega)
      refine lv_iload_n X.x X.b dX10_take_4 rfl (lv_at hl 3 rfl) ?_
      refine lv_iload_n X.x X.b dX10_take_5 rfl (lv_at hl 1 rfl) ?_
      refine z_icmp_ge (tgt := 55) X dX10_take_6 (by decide) (by omega) (by omega) (fun c_1 => ?_) (fun c_1 => ?_)
      · skip
        refine lv_iload_n X.x X.b dX10_take_55 rfl (lv_at hl 2 rfl) ?_
        obtain rfl : i = w := by omega
        exact exit () dX10_take_56 rfl ⟨by rw [ht]; simp; omega, rfl⟩ hw (Nat.zero_le _) (Nat.zero_le _)
      · skip
        refine lv_aload_n X.x X.b dX10_take_9 rfl (lv_at hl 0 rfl) ?_
        refine z_get X hw in_X10 0 rfl rfl 2 (by decide) q143 rfl rfl dX10_take_10 ?_
        refine lv_aload_n X.x X.b dX10_take_13 rfl (lv_at hl 0 rfl) ?_
        refine z_get X hw in_X10 0 rfl rfl 1 (by decide) q141 rfl rfl dX10_take_14 ?_
        refine z_icmp_ge (tgt := 24) X dX10_take_17 (by decide) (by omega) (by omega) (fun c_2 => ?_) (fun c_2 => ?_)
        · skip
          refine z_iconst X dX10_take_24 ?_
          refine cx_v (c1 := 0) (s1 := 0) X hw [] [0, 1] (wr := [(h0, .inr (0, [.ref hb, .int (zI (((bs.length : Nat) : Int))), .int (zI (((p + i : Nat) : Int)))])), (hb, .inl (dA 0, 400, .inl f))]) (vx_runSN (As := [.int (zI 0)]) (rest := []) X.fix (m_allow_f l hst D dA _) ⟨va_cnB 1 X.t (lw_meth q311) rfl rfl rfl (pc_nl16 X.N) (X.t _ q37) (by decide +kernel) (pc_rmle (by decide) (by decide)), X.t _ q310, trivial⟩ (pc_preS X hw [] rfl rfl) rfl rfl hl.1 rfl (lv_room (Nat.le_of_ble_eq_true rfl)) dX10_take_25 (pc_c2 (show t = true from by rw [ht]; simp; omega))) rfl rfl rfl rfl (fun E ce q9 ux_5 H locs hq hw h1 h2 h3 => ?_) (fun u hq => hq.elim) (fun u_4 H locs hq hw => ?_)
          · skip
            have hw : pc_S D A s.heap [(h0, .inr (0, [.ref hb, .int (zI (((bs.length : Nat) : Int))), .int (zI (((p + i : Nat) : Int)))])), (hb, .inl (dA 0, 400, .inl f))] H locs := hw
            have ht9 : t = true := by rw [ht]; simp; omega
            exact hout (zI ((p + i : Nat) : Int)) h1 h2 h3 ⟨hq, ht9⟩ hw (pc_c2 ht9).1 (pc_c2 ht9).2
          · skip
            have hw : pc_S D A s.heap [(h0, .inr (0, [.ref hb, .int (zI (((bs.length : Nat) : Int))), .int (zI (((p + i : Nat) : Int)))])), (hb, .inl (dA 0, 400, .inl f))] H locs := hw
            exact hq.elim
        · skip
          refine z_iconst X dX10_take_20 ?_
          refine lv_goto (tgt := 25) X.x X.b dX10_take_21 (by decide) ?_
          refine cv_v (c1 := 0) (s1 := 0) X hw [] [0, 1] (wr := [(h0, .inr (0, [.ref hb, .int (zI (((bs.length : Nat) : Int))), .int (zI (((p + i : Nat) : Int)))])), (hb, .inl (dA 0, 400, .inl f))]) (va_runSN (As := [.int (zI 1)]) (rest := []) X.fix (m_allow_t l hst D dA _) ⟨va_cnB 1 X.t (lw_meth q311) rfl rfl rfl (pc_nl16 X.N) (X.t _ q37) (by decide +kernel) (pc_rmle (by decide) (by decide)), X.t _ q310, trivial⟩ (pc_preS X hw [] rfl rfl) rfl rfl hl.1 rfl (lv_room (Nat.le_of_ble_eq_true rfl)) dX10_take_25 ⟨Nat.le_of_ble_eq_true rfl, Nat.le_of_ble_eq_true rfl⟩) rfl rfl rfl rfl (fun _ _ => pc_c00) (fun u_7 H locs hq hw => ?_)
          have hw : pc_S D A s.heap [(h0, .inr (0, [.ref hb, .int (zI (((bs.length : Nat) : Int))), .int (zI (((p + i : Nat) : Int)))])), (hb, .inl (dA 0, 400, .inl f))] H locs := hw
          refine lv_iload_n X.x X.b dX10_take_28 rfl (lv_at hl 2 rfl) ?_
          refine z_iconst X dX10_take_29 ?_
          refine lv_ishl X.x X.b dX10_take_30 ?_
          refine top_i (y := zI (((bval ((bs.drop p).take i)) * 2 ^ 1 : Nat) : Int)) (zI_shl (n := (bval ((bs.drop p).take i))) (by omega) (k := 1) (by omega) (by omega)) ?_
          have hb9 := b2n_le (bs.getD (p + i) false)
          refine lv_aload_n X.x X.b dX10_take_31 rfl (lv_at hl 0 rfl) ?_
          refine z_get X hw in_X10 0 rfl rfl 0 (by decide) q140 rfl rfl dX10_take_32 ?_
          refine lv_aload_n X.x X.b dX10_take_35 rfl (lv_at hl 0 rfl) ?_
          refine lv_dup X.x X.b dX10_take_36 rfl ?_
          refine z_get X hw in_X10 0 rfl rfl 2 (by decide) q143 rfl rfl dX10_take_37 ?_
          refine lv_dup_x1 X.x X.b dX10_take_40 rfl rfl ?_
          refine z_iconst X dX10_take_41 ?_
          refine z_iadd X dX10_take_42 ?_
          refine top_i (y := zI (((p + i) + 1 : Nat) : Int)) (congrArg zI (by omega)) ?_
          refine z_put X hw in_X10 tyX10 tyX10_ok nmX10 0 rfl rfl 2 (by decide) q143 rfl rfl rfl rfl (Nat.le_of_ble_eq_true rfl) dX10_take_43 (fun H locs hw => ?_)
          have hw : pc_S D A s.heap [(h0, .inr (0, [.ref hb, .int (zI (((bs.length : Nat) : Int))), .int (zI ((((p + i) + 1 : Nat) : Int)))])), (hb, .inl (dA 0, 400, .inl f))] H locs := hw
          refine z_bald X hw 1 (p + i) rfl (by decide) (by omega) (v := zI ((b2n (bs.getD (p + i) false) : Nat) : Int)) (hf.at (by omega) (by omega)) dX10_take_46 ?_
          refine lv_ior X.x X.b dX10_take_47 ?_
          refine top_i (y := zI ((bval ((bs.drop p).take (i + 1)) : Nat) : Int)) ((zI_or (n := bval ((bs.drop p).take i) * 2 ^ 1) (by omega) (m := b2n (bs.getD (p + i) false)) (by omega)).trans (congrArg (fun q : Nat => zI (q : Int)) (bval_step (by omega)))) ?_
          refine lv_istore_n (lv' := [(2, .int (zI (((bval ((bs.drop p).take (i + 1)) : Nat) : Int)))), (0, .ref h0), (1, .int (zI (((w : Nat) : Int)))), (3, .int (zI (((i : Nat) : Int))))]) X.x X.b dX10_take_48 rfl hl (by decide) rfl (fun ls hl => ?_)
          refine z_iinc (lv' := [(3, .int (zI (((i : Nat) : Int) + 1))), (2, .int (zI (((bval ((bs.drop p).take (i + 1)) : Nat) : Int)))), (0, .ref h0), (1, .int (zI (((w : Nat) : Int))))]) X dX10_take_49 hl (k0 := 3) rfl (by decide) rfl (fun ls hl => ?_)
          have hl : lv_has ls 4 [(3, .int (zI (((i + 1 : Nat) : Int)))), (2, .int (zI (((bval ((bs.drop p).take (i + 1)) : Nat) : Int)))), (0, .ref h0), (1, .int (zI (((w : Nat) : Int))))] := by rw [show (((i + 1 : Nat) : Int) : Int) = ((i : Nat) : Int) + 1 from by omega]; exact hl
          refine lv_goto (tgt := 4) X.x X.b dX10_take_52 (by decide) ?_
          have hw : pc_S D A s.heap [(h0, .inr (0, [.ref hb, .int (zI (((bs.length : Nat) : Int))), .int (zI (((p + (i + 1) : Nat) : Int)))])), (hb, .inl (dA 0, 400, .inl f))] H locs := by rw [show (((p + (i + 1) : Nat) : Int) : Int) = (((p + i) + 1 : Nat) : Int) from by omega]; exact hw
          exact ih4  (i + 1) (by omega) (by omega) (by omega) H locs hw ls (lv_sub hl [2, 3, 1, 0] rfl)
  have hl : lv_has ls 4 [(3, .int (zI 0)), (2, .int (zI (((bval ((bs.drop p).take 0) : Nat) : Int)))), (0, .ref h0), (1, .int (zI (((w : Nat) : Int))))] := by rw [show (((bval ((bs.drop p).take 0) : Nat) : Int) : Int) = 0 from by simp [bval]]; exact hl
  exact B4 _ 0 (Nat.zero_le _) hp (Nat.lt_succ_self _) H locs hw ls (lv_sub hl [2, 3, 1, 0] rfl)
set_option maxHeartbeats 4000000 in
/-- Row.run: how many bits of a sort, if one of the other stands behind them and they are not too many -/
theorem m_Row_run (l : Launch) (hst : l.stackTraces = false) (D : va_G) (dA : Nat → ClassId) (h0 hb : Nat) (p : Nat) (bs : List Bool) (b : Bool) (most : Nat) (f : Nat → Int32) (hf : RowIs bs f) (hp : p ≤ bs.length) (h4 : bs.length ≤ 400) (hm : most ≤ 4095) (t : Bool) (ht : t = (!decide (p + rl b (bs.drop p) < bs.length ∧ rl b (bs.drop p) ≤ most))) : px_I l yX10_run (ws_ yX10_run cX10_run 4 (some .int)) (pc_rm 3 (cond t 1 0) (cond t 6 0)) D dA [.ref h0, .int (zI (((b2n b : Nat) : Int))), .int (zI (((most : Nat) : Int)))] [(h0, .inr (0, [.ref hb, .int (zI (((bs.length : Nat) : Int))), .int (zI (((p : Nat) : Int)))])), (hb, .inl (dA 0, 400, .inl f))] (fun r (_ : Unit) => t = false ∧ r = zI ((rl b (bs.drop p) : Nat) : Int)) (fun _ => [(h0, .inr (0, [.ref hb, .int (zI (((bs.length : Nat) : Int))), .int (zI (((p + rl b (bs.drop p) + 1 : Nat) : Int)))])), (hb, .inl (dA 0, 400, .inl f))]) (fun E (_ : Int32) => E = xIAE ∧ t = true) (fun ta => [(h0, .inr (0, [.ref hb, .int (zI (((bs.length : Nat) : Int))), .int (ta)])), (hb, .inl (dA 0, 400, .inl f))]) := by
  refine sx_i hst (by decide) RX10 rfl (Nat.le_of_ble_eq_true rfl) ?_
  intro pg ev s mt args below meth cd R A Q hR X exit hout hthr H locs hw ls hl
  subst hR
  have hl : lv_has ls 4 [(0, .ref h0), (1, .int (zI (((b2n b : Nat) : Int)))), (2, .int (zI (((most : Nat) : Int))))] := hl
  refine z_iconst X dX10_run_0 ?_
  refine lv_istore_n (lv' := [(3, .int (zI 0)), (0, .ref h0), (1, .int (zI (((b2n b : Nat) : Int)))), (2, .int (zI (((most : Nat) : Int))))]) X.x X.b dX10_run_1 rfl hl (by decide) rfl (fun ls hl => ?_)
  have B2 : ∀ (NN : Nat) (i : Nat) (hi : i ≤ rl b (bs.drop p)) (him : i ≤ most) (hNN : bs.length - i < NN) (H : Heap) (locs : List Loc), pc_S D A s.heap [(h0, .inr (0, [.ref hb, .int (zI (((bs.length : Nat) : Int))), .int (zI (((p + i : Nat) : Int)))])), (hb, .inl (dA 0, 400, .inl f))] H locs → ∀ ls : Array Slot, lv_has ls 4 [(0, .ref h0), (1, .int (zI (((b2n b : Nat) : Int)))), (2, .int (zI (((most : Nat) : Int)))), (3, .int (zI (((i : Nat) : Int))))] → W pg l ev (pc_rm 3 (cond t 1 0) (cond t 6 0)) s mt args below meth cd H locs 0 0 Q (F0 mt 2 ls []) := by
    intro NN
    induction NN with
    | zero => intro i hi him hNN; exact absurd hNN (Nat.not_lt_zero _)
    | succ NN ih2 =>
      intro i hi him hNN H locs hw ls hl
      have hrl := rl_drop b bs p hp
      refine lv_aload_n X.x X.b dX10_run_2 rfl (lv_at hl 0 rfl) ?_
      refine z_iconst X dX10_run_3 ?_
      obtain ⟨t_1, ht_1⟩ : ∃ q : Bool, q = (decide (bs.length < (p + i) + 1)) := ⟨_, rfl⟩
      refine cx_i (c1 := 0) (s1 := 0) X hw [0, 1] [] (wr := []) (vx_runV (As := [.int (zI 1)]) (rest := []) X.fix (m_Row_take l hst D dA h0 hb (p + i) bs 1 f hf (by omega) (by omega) (by omega) t_1 ht_1 _) (cwV 1 X.t (lw_V q543 q532 q533 q46 q534) rfl rfl rfl (by decide +kernel) (pc_rmle (by decide) (by decide))) (pc_preV X hw [0, 1] rfl rfl 0 0 rfl rfl rfl) rfl rfl hl.1 rfl (lv_room (Nat.le_of_ble_eq_true rfl)) dX10_run_4 (pc_c1 (fun h => by rw [ht_1] at h; rw [ht]; simp at h ⊢; omega))) rfl rfl rfl rfl (fun E ce q9 ux_4 H locs hq hw h1 h2 h3 => ?_) (fun r u hq => pc_c0 hq.1) (fun r_2 u_3 H locs hq hw => ?_)
      · skip
        have hw : pc_S D A s.heap [(h0, .inr (0, [.ref hb, .int (zI (((bs.length : Nat) : Int))), .int (ux_4)])), (hb, .inl (dA 0, 400, .inl f))] H locs := hw
        exact hout ux_4 h1 h2 h3 (⟨hq.1, (fun h => by rw [ht_1] at h; rw [ht]; simp at h ⊢; omega) hq.2⟩) hw (pc_c1 (fun h => by rw [ht_1] at h; rw [ht]; simp at h ⊢; omega)).1 (pc_c1 (fun h => by rw [ht_1] at h; rw [ht]; simp at h ⊢; omega)).2
      · skip
        have hw : pc_S D A s.heap [(h0, .inr (0, [.ref hb, .int (zI (((bs.length : Nat) : Int))), .int (zI ((((p + i) + 1 : Nat) : Int)))])), (hb, .inl (dA 0, 400, .inl f))] H locs := hw
        obtain ⟨hq, rfl⟩ := hq
        have hq : ¬ bs.length < (p + i) + 1 := by rw [ht_1] at hq; simpa using hq
        refine top_i (y := zI ((b2n (bs.getD (p + i) false) : Nat) : Int)) (by rw [bval_one (by omega)]) ?_
        have hb8 := b2n_le (bs.getD (p + i) false)
        have hb9 := b2n_le b
        have hhit := rl_hit' (b := b) (bs := bs) (p := p) (i := i) hi (by omega)
        refine lv_iload_n X.x X.b dX10_run_7 rfl (lv_at hl 1 rfl) ?_
        refine z_icmp_ne (tgt := 30) X dX10_run_8 (by decide) (by omega) (by omega) (fun c_5 => ?_) (fun c_5 => ?_)
        · skip
          have hr8 : rl b (bs.drop p) = i := by
            have : ¬ i + 1 ≤ rl b (bs.drop p) := fun q => c_5 (by rw [hhit.mpr q])
            omega
          refine lv_iload_n X.x X.b dX10_run_30 rfl (lv_at hl 3 rfl) ?_
          rw [← hr8] at hw
          exact exit () dX10_run_31 rfl ⟨by rw [ht]; simp; omega, by rw [hr8]⟩ hw (Nat.zero_le _) (Nat.zero_le _)
        · skip
          have hr8 : i + 1 ≤ rl b (bs.drop p) := hhit.mp (b2n_inj.mp (by omega))
          refine z_iinc (lv' := [(3, .int (zI (((i : Nat) : Int) + 1))), (0, .ref h0), (1, .int (zI (((b2n b : Nat) : Int)))), (2, .int (zI (((most : Nat) : Int))))]) X dX10_run_11 hl (k0 := 3) rfl (by decide) rfl (fun ls hl => ?_)
          have hl : lv_has ls 4 [(3, .int (zI (((i + 1 : Nat) : Int)))), (0, .ref h0), (1, .int (zI (((b2n b : Nat) : Int)))), (2, .int (zI (((most : Nat) : Int))))] := by rw [show (((i + 1 : Nat) : Int) : Int) = ((i : Nat) : Int) + 1 from by omega]; exact hl
          refine lv_iload_n X.x X.b dX10_run_14 rfl (lv_at hl 0 rfl) ?_
          refine lv_iload_n X.x X.b dX10_run_15 rfl (lv_at hl 3 rfl) ?_
          refine z_icmp_gt (tgt := 23) X dX10_run_16 (by decide) (by omega) (by omega) (fun c_6 => ?_) (fun c_6 => ?_)
          · skip
            refine z_iconst X dX10_run_23 ?_
            refine cx_v (c1 := 0) (s1 := 0) X hw [] [0, 1] (wr := [(h0, .inr (0, [.ref hb, .int (zI (((bs.length : Nat) : Int))), .int (zI ((((p + i) + 1 : Nat) : Int)))])), (hb, .inl (dA 0, 400, .inl f))]) (vx_runSN (As := [.int (zI 0)]) (rest := []) X.fix (m_allow_f l hst D dA _) ⟨va_cnB 1 X.t (lw_meth q311) rfl rfl rfl (pc_nl16 X.N) (X.t _ q37) (by decide +kernel) (pc_rmle (by decide) (by decide)), X.t _ q310, trivial⟩ (pc_preS X hw [] rfl rfl) rfl rfl hl.1 rfl (lv_room (Nat.le_of_ble_eq_true rfl)) dX10_run_24 (pc_c2 (show t = true from by rw [ht]; simp; omega))) rfl rfl rfl rfl (fun E ce q9 ux_9 H locs hq hw h1 h2 h3 => ?_) (fun u hq => hq.elim) (fun u_8 H locs hq hw => ?_)
            · skip
              have hw : pc_S D A s.heap [(h0, .inr (0, [.ref hb, .int (zI (((bs.length : Nat) : Int))), .int (zI ((((p + i) + 1 : Nat) : Int)))])), (hb, .inl (dA 0, 400, .inl f))] H locs := hw
              have ht9 : t = true := by rw [ht]; simp; omega
              exact hout (zI ((p + i + 1 : Nat) : Int)) h1 h2 h3 ⟨hq, ht9⟩ hw (pc_c2 ht9).1 (pc_c2 ht9).2
            · skip
              have hw : pc_S D A s.heap [(h0, .inr (0, [.ref hb, .int (zI (((bs.length : Nat) : Int))), .int (zI ((((p + i) + 1 : Nat) : Int)))])), (hb, .inl (dA 0, 400, .inl f))] H locs := hw
              exact hq.elim
          · skip
            refine z_iconst X dX10_run_19 ?_
            refine lv_goto (tgt := 24) X.x X.b dX10_run_20 (by decide) ?_
            refine cv_v (c1 := 0) (s1 := 0) X hw [] [0, 1] (wr := [(h0, .inr (0, [.ref hb, .int (zI (((bs.length : Nat) : Int))), .int (zI ((((p + i) + 1 : Nat) : Int)))])), (hb, .inl (dA 0, 400, .inl f))]) (va_runSN (As := [.int (zI 1)]) (rest := []) X.fix (m_allow_t l hst D dA _) ⟨va_cnB 1 X.t (lw_meth q311) rfl rfl rfl (pc_nl16 X.N) (X.t _ q37) (by decide +kernel) (pc_rmle (by decide) (by decide)), X.t _ q310, trivial⟩ (pc_preS X hw [] rfl rfl) rfl rfl hl.1 rfl (lv_room (Nat.le_of_ble_eq_true rfl)) dX10_run_24 ⟨Nat.le_of_ble_eq_true rfl, Nat.le_of_ble_eq_true rfl⟩) rfl rfl rfl rfl (fun _ _ => pc_c00) (fun u_11 H locs hq hw => ?_)
            have hw : pc_S D A s.heap [(h0, .inr (0, [.ref hb, .int (zI (((bs.length : Nat) : Int))), .int (zI ((((p + i) + 1 : Nat) : Int)))])), (hb, .inl (dA 0, 400, .inl f))] H locs := hw
            refine lv_goto (tgt := 2) X.x X.b dX10_run_27 (by decide) ?_
            exact ih2  (i + 1) hr8 (by omega) (by omega) H locs hw ls (lv_sub hl [1, 2, 3, 0] rfl)
  exact B2 _ 0 (Nat.zero_le _) (Nat.zero_le _) (Nat.lt_succ_self _) H locs hw ls (lv_sub hl [1, 2, 3, 0] rfl)
set_option maxHeartbeats 4000000 in
/-- behind: the gap less 1 -/
theorem m_behind (l : Launch) (hst : l.stackTraces = false) (D : va_G) (dA : Nat → ClassId) (ha : Nat) (xs : List Nat) (f : Nat → Int32) (i : Nat) (hf : ArrIs xs f) (hv : Valid xs) (hi : i < xs.length) : pc_I l yX1_behind cX1_behind 2 .int (pc_rm 1 0 0) D dA [.ref ha, .int (zI (((i : Nat) : Int)))] [(ha, .inl (dA 1, 24, .inl f))] (fun r (_ : Unit) => r = zI ((gap xs i : Nat) : Int)) (fun _ => [(ha, .inl (dA 1, 24, .inl f))]) := by
  refine st_i hst (by decide) RX1 rfl (Nat.le_of_ble_eq_true rfl) ?_
  intro pg ev s mt args below meth cd R A Q hR X exit H locs hw ls hl
  subst hR
  have hl : lv_has ls 2 [(0, .ref ha), (1, .int (zI (((i : Nat) : Int))))] := hl
  have hl24 := hv.1
  refine lv_iload_n X.x X.b dX1_behind_0 rfl (lv_at hl 1 rfl) ?_
  refine z_if_ne (tgt := 10) X dX1_behind_1 (by decide) (by omega) (fun c_1 => ?_) (fun c_1 => ?_)
  · skip
    have hi0 : 0 < i := by omega
    have hv1 := hv.2.2 (i - 1) (by omega)
    rw [show i - 1 + 1 = i from by omega] at hv1
    refine lv_aload_n X.x X.b dX1_behind_10 rfl (lv_at hl 0 rfl) ?_
    refine lv_iload_n X.x X.b dX1_behind_11 rfl (lv_at hl 1 rfl) ?_
    refine z_sald X hw 0 i rfl (by decide) (by omega) (v := zI ((xs.getD i 0 : Nat) : Int)) (hf _ (by omega)) dX1_behind_12 ?_
    refine lv_aload_n X.x X.b dX1_behind_13 rfl (lv_at hl 0 rfl) ?_
    refine lv_iload_n X.x X.b dX1_behind_14 rfl (lv_at hl 1 rfl) ?_
    refine z_iconst X dX1_behind_15 ?_
    refine z_isub X dX1_behind_16 ?_
    refine z_sald X hw 0 (i - 1) rfl (by decide) (by omega) (v := zI ((xs.getD (i - 1) 0 : Nat) : Int)) (hf _ (by omega)) dX1_behind_17 ?_
    refine z_isub X dX1_behind_18 ?_
    refine z_iconst X dX1_behind_19 ?_
    refine z_isub X dX1_behind_20 ?_
    refine top_i (y := zI ((gap xs i : Nat) : Int)) (congrArg zI (by unfold gap; rw [if_neg (by omega)]; omega)) ?_
    exact exit () dX1_behind_21 rfl (rfl) hw (Nat.zero_le _) (Nat.zero_le _)
  · skip
    refine lv_aload_n X.x X.b dX1_behind_4 rfl (lv_at hl 0 rfl) ?_
    refine z_iconst X dX1_behind_5 ?_
    refine z_sald X hw 0 0 rfl (by decide) (by omega) (v := zI ((xs.getD 0 0 : Nat) : Int)) (hf _ (by omega)) dX1_behind_6 ?_
    refine lv_goto (tgt := 21) X.x X.b dX1_behind_7 (by decide) ?_
    exact exit () dX1_behind_21 rfl (by rw [show gap xs i = xs.getD 0 0 from by unfold gap; rw [if_pos (by omega)]]) hw (Nat.zero_le _) (Nat.zero_le _)
set_option maxHeartbeats 4000000 in
/-- follow: number i becomes that with gap h -/
theorem m_follow (l : Launch) (hst : l.stackTraces = false) (D : va_G) (dA : Nat → ClassId) (ha : Nat) (f : Nat → Int32) (i h : Nat) (pv : Int) (hi : i < 24) (hh : h < 1000000000) (hpv : -1 ≤ pv ∧ pv ≤ 4095) (hf : i = 0 ∧ pv = -1 ∨ 0 < i ∧ f (i - 1) = zI pv) (t : Bool) (ht : t = (!decide (h ≤ 4095 ∧ pv + 1 + (h : Int) ≤ 4095))) : px_V l yX1_follow (ws_ yX1_follow cX1_follow 4 none) (pc_rm 2 (cond t 1 0) (cond t 6 0)) D dA [.ref ha, .int (zI (((i : Nat) : Int))), .int (zI (((h : Nat) : Int)))] [(ha, .inl (dA 1, 24, .inl f))] (fun _ : Unit => t = false) (fun _ => [(ha, .inl (dA 1, 24, .inl (upd f i (zI (pv + 1 + (h : Int))))))]) (fun E (_ : Unit) => E = xIAE ∧ t = true) (fun _ => [(ha, .inl (dA 1, 24, .inl f))]) := by
  refine sx_v hst (by decide) RX1 rfl (Nat.le_of_ble_eq_true rfl) ?_
  intro pg ev s mt args below meth cd R A Q hR X exit hout hthr H locs hw ls hl
  subst hR
  have hl : lv_has ls 4 [(0, .ref ha), (1, .int (zI (((i : Nat) : Int)))), (2, .int (zI (((h : Nat) : Int))))] := hl
  refine lv_iload_n X.x X.b dX1_follow_0 rfl (lv_at hl 1 rfl) ?_
  refine z_if_ne (tgt := 8) X dX1_follow_1 (by decide) (by omega) (fun c_1 => ?_) (fun c_1 => ?_)
  · skip
    have hf9 : f (i - 1) = zI pv := by
      rcases hf with q | q
      · omega
      · exact q.2
    refine lv_aload_n X.x X.b dX1_follow_8 rfl (lv_at hl 0 rfl) ?_
    refine lv_iload_n X.x X.b dX1_follow_9 rfl (lv_at hl 1 rfl) ?_
    refine z_iconst X dX1_follow_10 ?_
    refine z_isub X dX1_follow_11 ?_
    refine z_sald X hw 0 (i - 1) rfl (by decide) (by omega) (v := zI pv) hf9 dX1_follow_12 ?_
    refine lv_iload_n X.x X.b dX1_follow_13 rfl (lv_at hl 2 rfl) ?_
    refine z_iadd X dX1_follow_14 ?_
    refine z_iconst X dX1_follow_15 ?_
    refine z_iadd X dX1_follow_16 ?_
    refine lv_istore_n (lv' := [(3, .int (zI ((pv + ((h : Nat) : Int)) + 1))), (0, .ref ha), (1, .int (zI (((i : Nat) : Int)))), (2, .int (zI (((h : Nat) : Int))))]) X.x X.b dX1_follow_17 rfl hl (by decide) rfl (fun ls hl => ?_)
    have hl : lv_has ls 4 [(3, .int (zI (pv + 1 + (h : Int)))), (0, .ref ha), (1, .int (zI (((i : Nat) : Int)))), (2, .int (zI (((h : Nat) : Int))))] := by rw [show (pv + 1 + (h : Int) : Int) = (pv + ((h : Nat) : Int)) + 1 from by omega]; exact hl
    refine lv_iload_n X.x X.b dX1_follow_18 rfl (lv_at hl 3 rfl) ?_
    refine z_if_lt (tgt := 40) X dX1_follow_19 (by decide) (by omega) (fun c_2 => ?_) (fun c_2 => ?_)
    · skip
      omega
    · skip
      refine lv_iload_n X.x X.b dX1_follow_22 rfl (lv_at hl 3 rfl) ?_
      refine z_sipush X dX1_follow_23 (by decide) ?_
      refine z_icmp_gt (tgt := 40) X dX1_follow_26 (by decide) (by omega) (by omega) (fun c_3 => ?_) (fun c_3 => ?_)
      · skip
        refine z_iconst X dX1_follow_40 ?_
        refine cx_v (c1 := 0) (s1 := 0) X hw [] [0] (wr := [(ha, .inl (dA 1, 24, .inl f))]) (vx_runS (As := [.int (zI 0)]) (rest := []) X.fix (m_allow_f l hst D dA _) (va_cwS 1 X.t (lw_S q309 q310 q37 q311) rfl rfl rfl (by decide +kernel) (pc_rmle (by decide) (by decide))) (pc_preS X hw [] rfl rfl) rfl rfl hl.1 rfl (lv_room (Nat.le_of_ble_eq_true rfl)) dX1_follow_41 (pc_c2 (show t = true from by rw [ht]; simp; omega))) rfl rfl rfl rfl (fun E ce q9 ux_6 H locs hq hw h1 h2 h3 => ?_) (fun u hq => hq.elim) (fun u_5 H locs hq hw => ?_)
        · skip
          have hw : pc_S D A s.heap [(ha, .inl (dA 1, 24, .inl f))] H locs := hw
          have ht9 : t = true := by rw [ht]; simp; omega
          exact hout () h1 h2 h3 ⟨hq, ht9⟩ hw (pc_c2 ht9).1 (pc_c2 ht9).2
        · skip
          have hw : pc_S D A s.heap [(ha, .inl (dA 1, 24, .inl f))] H locs := hw
          exact hq.elim
      · skip
        refine lv_iload_n X.x X.b dX1_follow_29 rfl (lv_at hl 0 rfl) ?_
        refine z_sipush X dX1_follow_30 (by decide) ?_
        refine z_icmp_gt (tgt := 40) X dX1_follow_33 (by decide) (by omega) (by omega) (fun c_7 => ?_) (fun c_7 => ?_)
        · skip
          refine z_iconst X dX1_follow_40 ?_
          refine cx_v (c1 := 0) (s1 := 0) X hw [] [0] (wr := [(ha, .inl (dA 1, 24, .inl f))]) (vx_runS (As := [.int (zI 0)]) (rest := []) X.fix (m_allow_f l hst D dA _) (va_cwS 1 X.t (lw_S q309 q310 q37 q311) rfl rfl rfl (by decide +kernel) (pc_rmle (by decide) (by decide))) (pc_preS X hw [] rfl rfl) rfl rfl hl.1 rfl (lv_room (Nat.le_of_ble_eq_true rfl)) dX1_follow_41 (pc_c2 (show t = true from by rw [ht]; simp; omega))) rfl rfl rfl rfl (fun E ce q9 ux_10 H locs hq hw h1 h2 h3 => ?_) (fun u hq => hq.elim) (fun u_9 H locs hq hw => ?_)
          · skip
            have hw : pc_S D A s.heap [(ha, .inl (dA 1, 24, .inl f))] H locs := hw
            have ht9 : t = true := by rw [ht]; simp; omega
            exact hout () h1 h2 h3 ⟨hq, ht9⟩ hw (pc_c2 ht9).1 (pc_c2 ht9).2
          · skip
            have hw : pc_S D A s.heap [(ha, .inl (dA 1, 24, .inl f))] H locs := hw
            exact hq.elim
        · skip
          refine z_iconst X dX1_follow_36 ?_
          refine lv_goto (tgt := 41) X.x X.b dX1_follow_37 (by decide) ?_
          refine cv_v (c1 := 0) (s1 := 0) X hw [] [0] (wr := [(ha, .inl (dA 1, 24, .inl f))]) (va_runS (As := [.int (zI 1)]) (rest := []) X.fix (m_allow_t l hst D dA _) (va_cwS 1 X.t (lw_S q309 q310 q37 q311) rfl rfl rfl (by decide +kernel) (pc_rmle (by decide) (by decide))) (pc_preS X hw [] rfl rfl) rfl rfl hl.1 rfl (lv_room (Nat.le_of_ble_eq_true rfl)) dX1_follow_41 ⟨Nat.le_of_ble_eq_true rfl, Nat.le_of_ble_eq_true rfl⟩) rfl rfl rfl rfl (fun _ _ => pc_c00) (fun u_12 H locs hq hw => ?_)
          have hw : pc_S D A s.heap [(ha, .inl (dA 1, 24, .inl f))] H locs := hw
          refine lv_aload_n X.x X.b dX1_follow_44 rfl (lv_at hl 1 rfl) ?_
          refine lv_iload_n X.x X.b dX1_follow_45 rfl (lv_at hl 2 rfl) ?_
          refine lv_iload_n X.x X.b dX1_follow_46 rfl (lv_at hl 0 rfl) ?_
          refine lv_i2s X.x X.b dX1_follow_47 (zI_short (by omega)) ?_
          refine z_sast X hw 0 i rfl (by decide) (by omega) (zI_nars (by omega)) dX1_follow_48 (fun H locs hw => ?_)
          have hw : pc_S D A s.heap [(ha, .inl (dA 1, 24, .inl (upd f i (zI (pv + 1 + (h : Int))))))] H locs := hw
          exact exit () dX1_follow_49 (by rw [ht]; simp; omega) hw (Nat.zero_le _) (Nat.zero_le _)
  · skip
    refine lv_iload_n X.x X.b dX1_follow_4 rfl (lv_at hl 2 rfl) ?_
    refine lv_goto (tgt := 17) X.x X.b dX1_follow_5 (by decide) ?_
    refine lv_istore_n (lv' := [(3, .int (zI (((h : Nat) : Int)))), (0, .ref ha), (1, .int (zI (((i : Nat) : Int)))), (2, .int (zI (((h : Nat) : Int))))]) X.x X.b dX1_follow_17 rfl hl (by decide) rfl (fun ls hl => ?_)
    have hl : lv_has ls 4 [(3, .int (zI (pv + 1 + (h : Int)))), (0, .ref ha), (1, .int (zI (((i : Nat) : Int)))), (2, .int (zI (((h : Nat) : Int))))] := by rw [show (pv + 1 + (h : Int) : Int) = ((h : Nat) : Int) from by omega]; exact hl
    refine lv_iload_n X.x X.b dX1_follow_18 rfl (lv_at hl 3 rfl) ?_
    refine z_if_lt (tgt := 40) X dX1_follow_19 (by decide) (by omega) (fun c_13 => ?_) (fun c_13 => ?_)
    · skip
      omega
    · skip
      refine lv_iload_n X.x X.b dX1_follow_22 rfl (lv_at hl 3 rfl) ?_
      refine z_sipush X dX1_follow_23 (by decide) ?_
      refine z_icmp_gt (tgt := 40) X dX1_follow_26 (by decide) (by omega) (by omega) (fun c_14 => ?_) (fun c_14 => ?_)
      · skip
        refine z_iconst X dX1_follow_40 ?_
        refine cx_v (c1 := 0) (s1 := 0) X hw [] [0] (wr := [(ha, .inl (dA 1, 24, .inl f))]) (vx_runS (As := [.int (zI 0)]) (rest := []) X.fix (m_allow_f l hst D dA _) (va_cwS 1 X.t (lw_S q309 q310 q37 q311) rfl rfl rfl (by decide +kernel) (pc_rmle (by decide) (by decide))) (pc_preS X hw [] rfl rfl) rfl rfl hl.1 rfl (lv_room (Nat.le_of_ble_eq_true rfl)) dX1_follow_41 (pc_c2 (show t = true from by rw [ht]; simp; omega))) rfl rfl rfl rfl (fun E ce q9 ux_17 H locs hq hw h1 h2 h3 => ?_) (fun u hq => hq.elim) (fun u_16 H locs hq hw => ?_)
        · skip
          have hw : pc_S D A s.heap [(ha, .inl (dA 1, 24, .inl f))] H locs := hw
          have ht9 : t = true := by rw [ht]; simp; omega
          exact hout () h1 h2 h3 ⟨hq, ht9⟩ hw (pc_c2 ht9).1 (pc_c2 ht9).2
        · skip
          have hw : pc_S D A s.heap [(ha, .inl (dA 1, 24, .inl f))] H locs := hw
          exact hq.elim
      · skip
        refine lv_iload_n X.x X.b dX1_follow_29 rfl (lv_at hl 0 rfl) ?_
        refine z_sipush X dX1_follow_30 (by decide) ?_
        refine z_icmp_gt (tgt := 40) X dX1_follow_33 (by decide) (by omega) (by omega) (fun c_18 => ?_) (fun c_18 => ?_)
        · skip
          refine z_iconst X dX1_follow_40 ?_
          refine cx_v (c1 := 0) (s1 := 0) X hw [] [0] (wr := [(ha, .inl (dA 1, 24, .inl f))]) (vx_runS (As := [.int (zI 0)]) (rest := []) X.fix (m_allow_f l hst D dA _) (va_cwS 1 X.t (lw_S q309 q310 q37 q311) rfl rfl rfl (by decide +kernel) (pc_rmle (by decide) (by decide))) (pc_preS X hw [] rfl rfl) rfl rfl hl.1 rfl (lv_room (Nat.le_of_ble_eq_true rfl)) dX1_follow_41 (pc_c2 (show t = true from by rw [ht]; simp; omega))) rfl rfl rfl rfl (fun E ce q9 ux_21 H locs hq hw h1 h2 h3 => ?_) (fun u hq => hq.elim) (fun u_20 H locs hq hw => ?_)
          · skip
            have hw : pc_S D A s.heap [(ha, .inl (dA 1, 24, .inl f))] H locs := hw
            have ht9 : t = true := by rw [ht]; simp; omega
            exact hout () h1 h2 h3 ⟨hq, ht9⟩ hw (pc_c2 ht9).1 (pc_c2 ht9).2
          · skip
            have hw : pc_S D A s.heap [(ha, .inl (dA 1, 24, .inl f))] H locs := hw
            exact hq.elim
        · skip
          refine z_iconst X dX1_follow_36 ?_
          refine lv_goto (tgt := 41) X.x X.b dX1_follow_37 (by decide) ?_
          refine cv_v (c1 := 0) (s1 := 0) X hw [] [0] (wr := [(ha, .inl (dA 1, 24, .inl f))]) (va_runS (As := [.int (zI 1)]) (rest := []) X.fix (m_allow_t l hst D dA _) (va_cwS 1 X.t (lw_S q309 q310 q37 q311) rfl rfl rfl (by decide +kernel) (pc_rmle (by decide) (by decide))) (pc_preS X hw [] rfl rfl) rfl rfl hl.1 rfl (lv_room (Nat.le_of_ble_eq_true rfl)) dX1_follow_41 ⟨Nat.le_of_ble_eq_true rfl, Nat.le_of_ble_eq_true rfl⟩) rfl rfl rfl rfl (fun _ _ => pc_c00) (fun u_23 H locs hq hw => ?_)
          have hw : pc_S D A s.heap [(ha, .inl (dA 1, 24, .inl f))] H locs := hw
          refine lv_aload_n X.x X.b dX1_follow_44 rfl (lv_at hl 1 rfl) ?_
          refine lv_iload_n X.x X.b dX1_follow_45 rfl (lv_at hl 2 rfl) ?_
          refine lv_iload_n X.x X.b dX1_follow_46 rfl (lv_at hl 0 rfl) ?_
          refine lv_i2s X.x X.b dX1_follow_47 (zI_short (by omega)) ?_
          refine z_sast X hw 0 i rfl (by decide) (by omega) (zI_nars (by omega)) dX1_follow_48 (fun H locs hw => ?_)
          have hw : pc_S D A s.heap [(ha, .inl (dA 1, 24, .inl (upd f i (zI (pv + 1 + (h : Int))))))] H locs := hw
          exact exit () dX1_follow_49 (by rw [ht]; simp; omega) hw (Nat.zero_le _) (Nat.zero_le _)
