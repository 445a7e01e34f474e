/-! MIDDLES -/
set_option maxRecDepth 100000
set_option maxHeartbeats 4000000 in
/-- Middles.bitsFor -/
theorem m_bitsFor (l : Launch) (hst : l.stackTraces = false) (D : va_G) (dA : Nat → ClassId) (r : Nat) (hr : 1 ≤ r ∧ r ≤ 4097) : pc_I l yX8_bitsFor cX8_bitsFor 2 .int (pc_rm 1 0 0) D dA [.int (zI (((r : Nat) : Int)))] [] (fun q (_ : Unit) => q = zI ((blen (r - 1) : Nat) : Int)) (fun _ => []) := by
  refine st_i hst (by decide) RX8 rfl (Nat.le_of_ble_eq_true rfl) ?_
  intro pg ev s mt args below meth cd R A Q hR X exit H locs hw ls hl
  subst hR
  have hl : lv_has ls 2 [(0, .int (zI (((r : Nat) : Int))))] := hl
  refine z_iconst X dX8_bitsFor_0 ?_
  refine lv_istore_n (lv' := [(1, .int (zI 0)), (0, .int (zI (((r : Nat) : Int))))]) X.x X.b dX8_bitsFor_1 rfl hl (by decide) rfl (fun ls hl => ?_)
  have B2 : ∀ (NN : Nat) (b : Nat) (hbb : b ≤ blen (r - 1)) (hNN : 40 - b < NN) (H : Heap) (locs : List Loc), pc_S D A s.heap [] H locs → ∀ ls : Array Slot, lv_has ls 2 [(0, .int (zI (((r : Nat) : Int)))), (1, .int (zI (((b : Nat) : Int))))] → W pg l ev (pc_rm 1 0 0) s mt args below meth cd H locs 0 0 Q (F0 mt 2 ls []) := by
    intro NN
    induction NN with
    | zero => intro b hbb hNN; exact absurd hNN (Nat.not_lt_zero _)
    | succ NN ih2 =>
      intro b hbb hNN H locs hw ls hl
      have h13 : blen (r - 1) ≤ 13 := blen_max (by omega)
      have hp13 : 2 ^ b ≤ 2 ^ 13 := Nat.pow_le_pow_right (by decide) (by omega)
      refine z_iconst X dX8_bitsFor_2 ?_
      refine lv_iload_n X.x X.b dX8_bitsFor_3 rfl (lv_at hl 1 rfl) ?_
      refine lv_ishl X.x X.b dX8_bitsFor_4 ?_
      refine top_i (y := zI ((2 ^ b : Nat) : Int)) ((zI_shl (n := 1) (by omega) (k := b) (by omega) (by omega)).trans (congrArg (fun q : Nat => zI (q : Int)) (Nat.one_mul _))) ?_
      obtain ⟨q_1, hq_1⟩ : ∃ q : Nat, q = 2 ^ b := ⟨_, rfl⟩
      refine top_i (y := zI ((q_1 : Nat) : Int)) (by rw [hq_1]) ?_
      rw [← hq_1] at hp13
      refine lv_iload_n X.x X.b dX8_bitsFor_5 rfl (lv_at hl 0 rfl) ?_
      refine z_icmp_ge (tgt := 15) X dX8_bitsFor_6 (by decide) (by omega) (by omega) (fun c_2 => ?_) (fun c_2 => ?_)
      · skip
        have hb1 : blen (r - 1) ≤ b := blen_le.mpr (by rw [← hq_1]; omega)
        refine lv_iload_n X.x X.b dX8_bitsFor_15 rfl (lv_at hl 1 rfl) ?_
        exact exit () dX8_bitsFor_16 rfl (by rw [show b = blen (r - 1) from by omega]) hw (Nat.zero_le _) (Nat.zero_le _)
      · skip
        refine z_iinc (lv' := [(1, .int (zI (((b : Nat) : Int) + 1))), (0, .int (zI (((r : Nat) : Int))))]) X dX8_bitsFor_9 hl (k0 := 1) rfl (by decide) rfl (fun ls hl => ?_)
        have hl : lv_has ls 2 [(1, .int (zI (((b + 1 : Nat) : Int)))), (0, .int (zI (((r : Nat) : Int))))] := by rw [show (((b + 1 : Nat) : Int) : Int) = ((b : Nat) : Int) + 1 from by omega]; exact hl
        refine lv_goto (tgt := 2) X.x X.b dX8_bitsFor_12 (by decide) ?_
        exact ih2  (b + 1) (blen_ge (by rw [← hq_1]; omega)) (by omega) H locs hw ls (lv_sub hl [1, 0] rfl)
  exact B2 _ 0 (Nat.zero_le _) (Nat.lt_succ_self _) H locs hw ls (lv_sub hl [1, 0] rfl)
set_option maxHeartbeats 4000000 in
/-- Middles.put -/
theorem m_mid_put (l : Launch) (hst : l.stackTraces = false) (D : va_G) (dA : Nat → ClassId) (h0 hb : Nat) (ta : Int32) (bs : List Bool) (x r : Nat) (f : Nat → Int32) (hf : RowIs bs f) (hlen : bs.length ≤ 900000) (hr : 1 ≤ r ∧ r ≤ 4097) (hx : x < r) : pc_V l yX8_put cX8_put 5 (pc_rm 2 0 0) D dA [.ref h0, .int (zI (((x : Nat) : Int))), .int (zI (((r : Nat) : Int)))] [(h0, .inr (0, [.ref hb, .int (zI (((bs.length : Nat) : Int))), .int (ta)])), (hb, .inl (dA 0, 400, .inl f))] (fun f' : Nat → Int32 => RowIs (bs ++ pm x r) f') (fun f' => [(h0, .inr (0, [.ref hb, .int (zI ((((bs ++ pm x r).length : Nat) : Int))), .int (ta)])), (hb, .inl (dA 0, 400, .inl f'))]) := by
  refine st_v hst (by decide) RX8 rfl (Nat.le_of_ble_eq_true rfl) ?_
  intro pg ev s mt args below meth cd R A Q hR X hin exit H locs hw ls hl
  subst hR
  have hl : lv_has ls 5 [(0, .ref h0), (1, .int (zI (((x : Nat) : Int)))), (2, .int (zI (((r : Nat) : Int))))] := hl
  refine lv_iload_n X.x X.b dX8_put_0 rfl (lv_at hl 2 rfl) ?_
  refine cv_i (c1 := 0) (s1 := 0) X hw [] [0, 1] (wr := [(h0, .inr (0, [.ref hb, .int (zI (((bs.length : Nat) : Int))), .int (ta)])), (hb, .inl (dA 0, 400, .inl f))]) (va_runS (As := [.int (zI (((r : Nat) : Int)))]) (rest := []) X.fix (m_bitsFor l hst D dA r (by omega) _) (va_cwS 1 X.t (lw_S q420 q421 q44 q422) rfl rfl rfl (by decide +kernel) (pc_rmle (by decide) (by decide))) (pc_preS X hw [] rfl rfl) rfl rfl hl.1 rfl (lv_room (Nat.le_of_ble_eq_true rfl)) dX8_put_1 ⟨Nat.le_of_ble_eq_true rfl, Nat.le_of_ble_eq_true rfl⟩) rfl rfl rfl rfl (fun _ _ _ => pc_c00) (fun r_1 u_2 H locs hq hw => ?_)
  have hw : pc_S D A s.heap [(h0, .inr (0, [.ref hb, .int (zI (((bs.length : Nat) : Int))), .int (ta)])), (hb, .inl (dA 0, 400, .inl f))] H locs := hw
  subst hq
  have h13 : blen (r - 1) ≤ 13 := blen_max (by omega)
  have hp13 : 2 ^ (blen (r - 1)) ≤ 2 ^ 13 := Nat.pow_le_pow_right (by decide) h13
  have hrb := pm_b hr.1
  refine lv_istore_n (lv' := [(3, .int (zI (((blen (r - 1) : Nat) : Int)))), (0, .ref h0), (1, .int (zI (((x : Nat) : Int)))), (2, .int (zI (((r : Nat) : Int))))]) X.x X.b dX8_put_4 rfl hl (by decide) rfl (fun ls hl => ?_)
  refine z_iconst X dX8_put_5 ?_
  refine lv_iload_n X.x X.b dX8_put_6 rfl (lv_at hl 0 rfl) ?_
  refine lv_ishl X.x X.b dX8_put_7 ?_
  refine top_i (y := zI ((2 ^ (blen (r - 1)) : Nat) : Int)) ((zI_shl (n := 1) (by omega) (k := blen (r - 1)) (by omega) (by omega)).trans (congrArg (fun q : Nat => zI (q : Int)) (Nat.one_mul _))) ?_
  refine lv_iload_n X.x X.b dX8_put_8 rfl (lv_at hl 3 rfl) ?_
  refine z_isub X dX8_put_9 ?_
  refine top_i (y := zI ((2 ^ (blen (r - 1)) - r : Nat) : Int)) (congrArg zI (by omega)) ?_
  refine lv_istore (lv' := [(4, .int (zI (((2 ^ (blen (r - 1)) - r : Nat) : Int)))), (3, .int (zI (((blen (r - 1) : Nat) : Int)))), (0, .ref h0), (1, .int (zI (((x : Nat) : Int)))), (2, .int (zI (((r : Nat) : Int))))]) X.x X.b dX8_put_10 hl (by decide) rfl (fun ls hl => ?_)
  refine lv_iload_n X.x X.b dX8_put_12 rfl (lv_at hl 3 rfl) ?_
  refine lv_iload X.x X.b dX8_put_13 (lv_at hl 0 rfl) ?_
  refine z_icmp_ge (tgt := 29) X dX8_put_15 (by decide) (by omega) (by omega) (fun c_3 => ?_) (fun c_3 => ?_)
  · skip
    refine lv_aload_n X.x X.b dX8_put_29 rfl (lv_at hl 2 rfl) ?_
    refine lv_iload_n X.x X.b dX8_put_30 rfl (lv_at hl 3 rfl) ?_
    refine lv_iload X.x X.b dX8_put_31 (lv_at hl 0 rfl) ?_
    refine z_iadd X dX8_put_33 ?_
    refine top_i (y := zI ((x + (2 ^ (blen (r - 1)) - r) : Nat) : Int)) (congrArg zI (by omega)) ?_
    refine lv_iload_n X.x X.b dX8_put_34 rfl (lv_at hl 1 rfl) ?_
    refine cv_v (c1 := 0) (s1 := 0) X hw [0, 1] [] (wr := []) (va_runV (As := [.int (zI (((x + (2 ^ (blen (r - 1)) - r) : Nat) : Int))), .int (zI (((blen (r - 1) : Nat) : Int)))]) (rest := []) X.fix (m_Row_put l hst D dA h0 hb (ta) bs (zI ((x + (2 ^ (blen (r - 1)) - r) : Nat) : Int)) (blen (r - 1)) f hf (by first | omega | (simp only [List.length_append, pb_len, List.length_replicate]; omega)) _) (cwV 2 X.t (lw_V q423 q383 q384 q46 q385) rfl rfl rfl (by decide +kernel) (pc_rmle (by decide) (by decide))) (pc_preV X hw [0, 1] rfl rfl 0 0 rfl rfl rfl) rfl rfl hl.1 rfl (lv_room (Nat.le_of_ble_eq_true rfl)) dX8_put_35 ⟨Nat.le_of_ble_eq_true rfl, Nat.le_of_ble_eq_true rfl⟩) rfl rfl rfl rfl (fun _ _ => pc_c00) (fun u_5 H locs hq hw => ?_)
    have hw : pc_S D A s.heap [(h0, .inr (0, [.ref hb, .int (zI ((((bs ++ pb (zI ((x + (2 ^ (blen (r - 1)) - r) : Nat) : Int)) (blen (r - 1))).length : Nat) : Int))), .int (ta)])), (hb, .inl (dA 0, 400, .inl u_5))] H locs := hw
    have hu_5 := hq
    have e9 : bs ++ pb (zI ((x + (2 ^ (blen (r - 1)) - r) : Nat) : Int)) (blen (r - 1)) = bs ++ pm x r := by rw [pm, if_neg (by omega)]
    rw [e9] at hw hu_5
    exact exit u_5 dX8_put_38 hu_5 hw (Nat.zero_le _) (Nat.zero_le _)
  · skip
    have hr2 : 2 ≤ r := by
      rcases Nat.lt_or_ge r 2 with e | e
      · have : r = 1 := by omega
        subst this
        have : blen (1 - 1) = 0 := rfl
        rw [this] at c_3
        omega
      · exact e
    have hb1 := (pm_b2 hr2).2.2
    refine lv_aload_n X.x X.b dX8_put_18 rfl (lv_at hl 2 rfl) ?_
    refine lv_iload_n X.x X.b dX8_put_19 rfl (lv_at hl 3 rfl) ?_
    refine lv_iload_n X.x X.b dX8_put_20 rfl (lv_at hl 1 rfl) ?_
    refine z_iconst X dX8_put_21 ?_
    refine z_isub X dX8_put_22 ?_
    refine top_i (y := zI ((blen (r - 1) - 1 : Nat) : Int)) (congrArg zI (by omega)) ?_
    refine cv_v (c1 := 0) (s1 := 0) X hw [0, 1] [] (wr := []) (va_runV (As := [.int (zI (((x : Nat) : Int))), .int (zI (((blen (r - 1) - 1 : Nat) : Int)))]) (rest := []) X.fix (m_Row_put l hst D dA h0 hb (ta) bs (zI ((x : Nat) : Int)) (blen (r - 1) - 1) f hf (by first | omega | (simp only [List.length_append, pb_len, List.length_replicate]; omega)) _) (cwV 2 X.t (lw_V q423 q383 q384 q46 q385) rfl rfl rfl (by decide +kernel) (pc_rmle (by decide) (by decide))) (pc_preV X hw [0, 1] rfl rfl 0 0 rfl rfl rfl) rfl rfl hl.1 rfl (lv_room (Nat.le_of_ble_eq_true rfl)) dX8_put_23 ⟨Nat.le_of_ble_eq_true rfl, Nat.le_of_ble_eq_true rfl⟩) rfl rfl rfl rfl (fun _ _ => pc_c00) (fun u_7 H locs hq hw => ?_)
    have hw : pc_S D A s.heap [(h0, .inr (0, [.ref hb, .int (zI ((((bs ++ pb (zI ((x : Nat) : Int)) (blen (r - 1) - 1)).length : Nat) : Int))), .int (ta)])), (hb, .inl (dA 0, 400, .inl u_7))] H locs := hw
    have hu_7 := hq
    refine lv_goto (tgt := 38) X.x X.b dX8_put_26 (by decide) ?_
    have e9 : bs ++ pb (zI ((x : Nat) : Int)) (blen (r - 1) - 1) = bs ++ pm x r := by rw [pm, if_pos (by omega)]
    rw [e9] at hw hu_7
    exact exit u_7 dX8_put_38 hu_7 hw (Nat.zero_le _) (Nat.zero_le _)
set_option maxHeartbeats 4000000 in
/-- Middles.putAll -/
theorem m_putAll (l : Launch) (hst : l.stackTraces = false) (D : va_G) (dA : Nat → ClassId) (h0 hb ha : Nat) (ta : Int32) (xs : List Nat) (g : Nat → Int32) (hv : Valid xs) (hg : ArrIs xs g) : ∀ (d : Nat) (n s0 low hi : Nat) (bs : List Bool) (f : Nat → Int32) (hf : RowIs bs f) (hlen : bs.length + n * 13 ≤ 900000) (hn : n < 2 ^ d) (hm : MidOK xs n s0 low hi) (hhi : hi ≤ 4096), pc_V l yX8_putAll cX8_putAll 8 (pc_rm (3 + d) 0 0) D dA [.ref h0, .ref ha, .int (zI (((s0 : Nat) : Int))), .int (zI (((n : Nat) : Int))), .int (zI (((low : Nat) : Int))), .int (zI (((hi : Nat) : Int) - 1))] [(h0, .inr (0, [.ref hb, .int (zI (((bs.length : Nat) : Int))), .int (ta)])), (hb, .inl (dA 0, 400, .inl f)), (ha, .inl (dA 1, 24, .inl g))] (fun f' : Nat → Int32 => RowIs (bs ++ encM xs d n s0 low hi) f') (fun f' => [(h0, .inr (0, [.ref hb, .int (zI ((((bs ++ encM xs d n s0 low hi).length : Nat) : Int))), .int (ta)])), (hb, .inl (dA 0, 400, .inl f')), (ha, .inl (dA 1, 24, .inl g))]) := by
  intro d
  induction d with
  | zero =>
    intro n s0 low hi bs f hf hlen hn hm hhi
    refine st_v hst (by decide) RX8 rfl (Nat.le_of_ble_eq_true rfl) ?_
    intro pg ev s mt args below meth cd R A Q hR X hin exit H locs hw ls hl
    subst hR
    have hl : lv_has ls 8 [(0, .ref h0), (1, .ref ha), (2, .int (zI (((s0 : Nat) : Int)))), (3, .int (zI (((n : Nat) : Int)))), (4, .int (zI (((low : Nat) : Int)))), (5, .int (zI (((hi : Nat) : Int) - 1)))] := hl
    have hn0 : n = 0 := by simpa using hn
    refine lv_iload_n X.x X.b dX8_putAll_0 rfl (lv_at hl 3 rfl) ?_
    refine z_if_ne (tgt := 5) X dX8_putAll_1 (by decide) (by omega) (fun c_1 => ?_) (fun c_1 => ?_)
    · skip
      omega
    · skip
      have e9 : bs = bs ++ encM xs 0 n s0 low hi := by simp [encM]
      rw [e9] at hw hf
      exact exit f dX8_putAll_4 hf hw (Nat.zero_le _) (Nat.zero_le _)
  | succ d ih =>
    intro n s0 low hi bs f hf hlen hn hm hhi
    refine st_v hst (by decide) RX8 rfl (Nat.le_of_ble_eq_true rfl) ?_
    intro pg ev s mt args below meth cd R A Q hR X hin exit H locs hw ls hl
    subst hR
    have hl : lv_has ls 8 [(0, .ref h0), (1, .ref ha), (2, .int (zI (((s0 : Nat) : Int)))), (3, .int (zI (((n : Nat) : Int)))), (4, .int (zI (((low : Nat) : Int)))), (5, .int (zI (((hi : Nat) : Int) - 1)))] := hl
    have hv1 := hv.1
    have hm1 := hm.1
    have hpd : 2 ^ (d + 1) = 2 ^ d * 2 := Nat.pow_succ _ _
    refine lv_iload_n X.x X.b dX8_putAll_0 rfl (lv_at hl 3 rfl) ?_
    refine z_if_ne (tgt := 5) X dX8_putAll_1 (by decide) (by omega) (fun c_1 => ?_) (fun c_1 => ?_)
    · skip
      have hn0 : 0 < n := by omega
      obtain ⟨hr1, hr2, hr3, hr4⟩ := mid_rng hm hn0
      have hmd : n / 2 < n := by omega
      refine lv_iload_n X.x X.b dX8_putAll_5 rfl (lv_at hl 3 rfl) ?_
      refine z_iconst X dX8_putAll_6 ?_
      refine lv_idiv X.x X.b dX8_putAll_7 (by decide) ?_
      refine top_i (y := zI ((n / 2 : Nat) : Int)) (zI_div (n := n) (by omega) (d := 2) (by omega)) ?_
      refine lv_istore (lv' := [(6, .int (zI (((n / 2 : Nat) : Int)))), (0, .ref h0), (1, .ref ha), (2, .int (zI (((s0 : Nat) : Int)))), (3, .int (zI (((n : Nat) : Int)))), (4, .int (zI (((low : Nat) : Int)))), (5, .int (zI (((hi : Nat) : Int) - 1)))]) X.x X.b dX8_putAll_8 hl (by decide) rfl (fun ls hl => ?_)
      refine lv_aload_n X.x X.b dX8_putAll_10 rfl (lv_at hl 2 rfl) ?_
      refine lv_iload_n X.x X.b dX8_putAll_11 rfl (lv_at hl 3 rfl) ?_
      refine lv_iload X.x X.b dX8_putAll_12 (lv_at hl 0 rfl) ?_
      refine z_iadd X dX8_putAll_14 ?_
      refine top_i (y := zI ((s0 + (n / 2) : Nat) : Int)) (congrArg zI (by omega)) ?_
      refine z_sald X hw 2 (s0 + (n / 2)) rfl (by decide) (by omega) (v := zI ((xs.getD (s0 + (n / 2)) 0 : Nat) : Int)) (hg _ (by omega)) dX8_putAll_15 ?_
      refine lv_istore (lv' := [(7, .int (zI (((xs.getD (s0 + (n / 2)) 0 : Nat) : Int)))), (6, .int (zI (((n / 2 : Nat) : Int)))), (0, .ref h0), (1, .ref ha), (2, .int (zI (((s0 : Nat) : Int)))), (3, .int (zI (((n : Nat) : Int)))), (4, .int (zI (((low : Nat) : Int)))), (5, .int (zI (((hi : Nat) : Int) - 1)))]) X.x X.b dX8_putAll_16 hl (by decide) rfl (fun ls hl => ?_)
      refine lv_aload_n X.x X.b dX8_putAll_18 rfl (lv_at hl 2 rfl) ?_
      refine lv_iload X.x X.b dX8_putAll_19 (lv_at hl 0 rfl) ?_
      refine lv_iload X.x X.b dX8_putAll_21 (lv_at hl 6 rfl) ?_
      refine lv_iload X.x X.b dX8_putAll_23 (lv_at hl 1 rfl) ?_
      refine z_iadd X dX8_putAll_25 ?_
      refine top_i (y := zI ((low + (n / 2) : Nat) : Int)) (congrArg zI (by omega)) ?_
      refine z_isub X dX8_putAll_26 ?_
      refine top_i (y := zI ((xs.getD (s0 + n / 2) 0 - (low + n / 2) : Nat) : Int)) (congrArg zI (by omega)) ?_
      refine lv_iload X.x X.b dX8_putAll_27 (lv_at hl 7 rfl) ?_
      refine lv_iload X.x X.b dX8_putAll_29 (lv_at hl 6 rfl) ?_
      refine z_isub X dX8_putAll_31 ?_
      refine lv_iload_n X.x X.b dX8_putAll_32 rfl (lv_at hl 5 rfl) ?_
      refine z_isub X dX8_putAll_33 ?_
      refine z_iconst X dX8_putAll_34 ?_
      refine z_iadd X dX8_putAll_35 ?_
      refine top_i (y := zI ((hi - low - n + 1 : Nat) : Int)) (congrArg zI (by omega)) ?_
      refine cv_v (c1 := 0) (s1 := 0) X hw [0, 1] [2] (wr := [(ha, .inl (dA 1, 24, .inl g))]) (va_runS (As := [.ref h0, .int (zI (((xs.getD (s0 + n / 2) 0 - (low + n / 2) : Nat) : Int))), .int (zI (((hi - low - n + 1 : Nat) : Int)))]) (rest := []) X.fix (m_mid_put l hst D dA h0 hb (ta) bs (xs.getD (s0 + n / 2) 0 - (low + n / 2)) (hi - low - n + 1) f hf (by omega) (by omega) (by omega) _) (va_cwS 3 X.t (lw_S q417 q418 q44 q419) rfl rfl rfl (by decide +kernel) (pc_rmle (by omega) (by decide))) (pc_preS X hw [0, 1] rfl rfl) rfl rfl hl.1 rfl (lv_room (Nat.le_of_ble_eq_true rfl)) dX8_putAll_36 ⟨Nat.le_of_ble_eq_true rfl, Nat.le_of_ble_eq_true rfl⟩) rfl rfl rfl rfl (fun _ _ => pc_c00) (fun u_3 H locs hq hw => ?_)
      have hw : pc_S D A s.heap [(ha, .inl (dA 1, 24, .inl g)), (h0, .inr (0, [.ref hb, .int (zI ((((bs ++ pm (xs.getD (s0 + n / 2) 0 - (low + n / 2)) (hi - low - n + 1)).length : Nat) : Int))), .int (ta)])), (hb, .inl (dA 0, 400, .inl u_3))] H locs := hw
      have hu_3 := hq
      refine lv_aload_n X.x X.b dX8_putAll_39 rfl (lv_at hl 2 rfl) ?_
      refine lv_aload_n X.x X.b dX8_putAll_40 rfl (lv_at hl 3 rfl) ?_
      refine lv_iload_n X.x X.b dX8_putAll_41 rfl (lv_at hl 4 rfl) ?_
      refine lv_iload X.x X.b dX8_putAll_42 (lv_at hl 1 rfl) ?_
      refine lv_iload X.x X.b dX8_putAll_44 (lv_at hl 6 rfl) ?_
      refine lv_iload X.x X.b dX8_putAll_46 (lv_at hl 0 rfl) ?_
      refine z_iconst X dX8_putAll_48 ?_
      refine z_isub X dX8_putAll_49 ?_
      have hpl := pm_len (x := xs.getD (s0 + n / 2) 0 - (low + n / 2)) (r := hi - low - n + 1) (by omega)
      have hel := encM_len xs d (n / 2) s0 low (xs.getD (s0 + n / 2) 0) (by omega) (by omega) (valid_all hv)
      refine cv_v (c1 := 0) (s1 := 0) X hw [1, 2, 0] [] (wr := []) (va_runS (As := [.ref h0, .ref ha, .int (zI (((s0 : Nat) : Int))), .int (zI (((n / 2 : Nat) : Int))), .int (zI (((low : Nat) : Int))), .int (zI (((xs.getD (s0 + (n / 2)) 0 : Nat) : Int) - 1))]) (rest := []) X.fix (ih (n / 2) s0 low (xs.getD (s0 + n / 2) 0) (bs ++ pm (xs.getD (s0 + n / 2) 0 - (low + n / 2)) (hi - low - n + 1)) u_3 hu_3 (by simp only [List.length_append]; omega) (by omega) (mid_left hv hm hmd) (by omega) _) (va_cwS 6 X.t (lw_S q414 q415 q44 q416) rfl rfl rfl (by decide +kernel) (pc_rmle (by omega) (by decide))) (pc_preS X hw [1, 2, 0] rfl rfl) rfl rfl hl.1 rfl (lv_room (Nat.le_of_ble_eq_true rfl)) dX8_putAll_50 ⟨Nat.le_of_ble_eq_true rfl, Nat.le_of_ble_eq_true rfl⟩) rfl rfl rfl rfl (fun _ _ => pc_c00) (fun u_5 H locs hq hw => ?_)
      have hw : pc_S D A s.heap [(h0, .inr (0, [.ref hb, .int (zI (((((bs ++ pm (xs.getD (s0 + n / 2) 0 - (low + n / 2)) (hi - low - n + 1)) ++ encM xs d (n / 2) s0 low (xs.getD (s0 + n / 2) 0)).length : Nat) : Int))), .int (ta)])), (hb, .inl (dA 0, 400, .inl u_5)), (ha, .inl (dA 1, 24, .inl g))] H locs := hw
      have hu_5 := hq
      refine lv_aload_n X.x X.b dX8_putAll_53 rfl (lv_at hl 2 rfl) ?_
      refine lv_aload_n X.x X.b dX8_putAll_54 rfl (lv_at hl 3 rfl) ?_
      refine lv_iload_n X.x X.b dX8_putAll_55 rfl (lv_at hl 4 rfl) ?_
      refine lv_iload X.x X.b dX8_putAll_56 (lv_at hl 1 rfl) ?_
      refine z_iadd X dX8_putAll_58 ?_
      refine top_i (y := zI ((s0 + (n / 2) : Nat) : Int)) (congrArg zI (by omega)) ?_
      refine z_iconst X dX8_putAll_59 ?_
      refine z_iadd X dX8_putAll_60 ?_
      refine top_i (y := zI (((s0 + (n / 2)) + 1 : Nat) : Int)) (congrArg zI (by omega)) ?_
      refine lv_iload_n X.x X.b dX8_putAll_61 rfl (lv_at hl 5 rfl) ?_
      refine z_iconst X dX8_putAll_62 ?_
      refine z_isub X dX8_putAll_63 ?_
      refine lv_iload X.x X.b dX8_putAll_64 (lv_at hl 1 rfl) ?_
      refine z_isub X dX8_putAll_66 ?_
      refine top_i (y := zI ((n - 1 - n / 2 : Nat) : Int)) (congrArg zI (by omega)) ?_
      refine lv_iload X.x X.b dX8_putAll_67 (lv_at hl 0 rfl) ?_
      refine z_iconst X dX8_putAll_69 ?_
      refine z_iadd X dX8_putAll_70 ?_
      refine top_i (y := zI (((xs.getD (s0 + (n / 2)) 0) + 1 : Nat) : Int)) (congrArg zI (by omega)) ?_
      refine lv_iload X.x X.b dX8_putAll_71 (lv_at hl 7 rfl) ?_
      refine cv_v (c1 := 0) (s1 := 0) X hw [0, 1, 2] [] (wr := []) (va_runS (As := [.ref h0, .ref ha, .int (zI ((((s0 + (n / 2)) + 1 : Nat) : Int))), .int (zI (((n - 1 - n / 2 : Nat) : Int))), .int (zI ((((xs.getD (s0 + (n / 2)) 0) + 1 : Nat) : Int))), .int (zI (((hi : Nat) : Int) - 1))]) (rest := []) X.fix (ih (n - 1 - n / 2) (s0 + n / 2 + 1) (xs.getD (s0 + n / 2) 0 + 1) hi ((bs ++ pm (xs.getD (s0 + n / 2) 0 - (low + n / 2)) (hi - low - n + 1)) ++ encM xs d (n / 2) s0 low (xs.getD (s0 + n / 2) 0)) u_5 hu_5 (by simp only [List.length_append]; omega) (by omega) (mid_right hv hm hmd) (by omega) _) (va_cwS 6 X.t (lw_S q414 q415 q44 q416) rfl rfl rfl (by decide +kernel) (pc_rmle (by omega) (by decide))) (pc_preS X hw [0, 1, 2] rfl rfl) rfl rfl hl.1 rfl (lv_room (Nat.le_of_ble_eq_true rfl)) dX8_putAll_73 ⟨Nat.le_of_ble_eq_true rfl, Nat.le_of_ble_eq_true rfl⟩) rfl rfl rfl rfl (fun _ _ => pc_c00) (fun u_7 H locs hq hw => ?_)
      have hw : pc_S D A s.heap [(h0, .inr (0, [.ref hb, .int (zI ((((((bs ++ pm (xs.getD (s0 + n / 2) 0 - (low + n / 2)) (hi - low - n + 1)) ++ encM xs d (n / 2) s0 low (xs.getD (s0 + n / 2) 0)) ++ encM xs d (n - 1 - n / 2) (s0 + n / 2 + 1) (xs.getD (s0 + n / 2) 0 + 1) hi).length : Nat) : Int))), .int (ta)])), (hb, .inl (dA 0, 400, .inl u_7)), (ha, .inl (dA 1, 24, .inl g))] H locs := hw
      have hu_7 := hq
      have e9 : ((bs ++ pm (xs.getD (s0 + n / 2) 0 - (low + n / 2)) (hi - low - n + 1)) ++ encM xs d (n / 2) s0 low (xs.getD (s0 + n / 2) 0)) ++ encM xs d (n - 1 - n / 2) (s0 + n / 2 + 1) (xs.getD (s0 + n / 2) 0 + 1) hi = bs ++ encM xs (d + 1) n s0 low hi := by rw [encM, if_neg (by omega)]; simp only [List.append_assoc]
      rw [e9] at hw hu_7
      exact exit u_7 dX8_putAll_76 hu_7 hw (Nat.zero_le _) (Nat.zero_le _)
    · skip
      have e9 : bs = bs ++ encM xs (d + 1) n s0 low hi := by rw [encM, if_pos (by omega), List.append_nil]
      rw [e9] at hw hf
      exact exit f dX8_putAll_4 hf hw (Nat.zero_le _) (Nat.zero_le _)
set_option maxHeartbeats 4000000 in
/-- Middles.encode -/
theorem m_enc_5 (l : Launch) (hst : l.stackTraces = false) (D : va_G) (dA : Nat → ClassId) (hc h0 hb ha : Nat) (ta : Int32) (xs : List Nat) (k : Nat) (f g : Nat → Int32) (hv : Valid xs) (hg : ArrIs xs g) : pc_V l yX8_encode cX8_encode 5 (pc_rm 9 0 0) D dA [.ref hc, .ref h0, .ref ha, .int (zI (((xs.length : Nat) : Int))), .int (zI ((k : Nat) : Int))] [(hc, .inr (6, [])), (h0, .inr (0, [.ref hb, .int (zI 0), .int (ta)])), (hb, .inl (dA 0, 400, .inl f)), (ha, .inl (dA 1, 24, .inl g))] (fun f' : Nat → Int32 => RowIs (encM xs 5 xs.length 0 0 4096) f') (fun f' => [(hc, .inr (6, [])), (h0, .inr (0, [.ref hb, .int (zI ((((encM xs 5 xs.length 0 0 4096).length : Nat) : Int))), .int (ta)])), (hb, .inl (dA 0, 400, .inl f')), (ha, .inl (dA 1, 24, .inl g))]) := by
  refine st_v hst (by decide) RX8 rfl (Nat.le_of_ble_eq_true rfl) ?_
  intro pg ev s mt args below meth cd R A Q hR X hin exit H locs hw ls hl
  subst hR
  have hl : lv_has ls 5 [(0, .ref hc), (1, .ref h0), (2, .ref ha), (3, .int (zI (((xs.length : Nat) : Int)))), (4, .int (zI ((k : Nat) : Int)))] := hl
  have hv1 := hv.1
  refine lv_aload_n X.x X.b dX8_encode_0 rfl (lv_at hl 1 rfl) ?_
  refine lv_aload_n X.x X.b dX8_encode_1 rfl (lv_at hl 2 rfl) ?_
  refine z_iconst X dX8_encode_2 ?_
  refine lv_iload_n X.x X.b dX8_encode_3 rfl (lv_at hl 3 rfl) ?_
  refine z_iconst X dX8_encode_4 ?_
  refine z_sipush X dX8_encode_5 (by decide) ?_
  refine top_i (y := zI (((4096 : Nat) : Int) - 1)) rfl ?_
  refine cv_v (c1 := 0) (s1 := 0) X hw [1, 2, 3] [0] (wr := [(hc, .inr (6, []))]) (va_runS (As := [.ref h0, .ref ha, .int (zI 0), .int (zI (((xs.length : Nat) : Int))), .int (zI 0), .int (zI (((4096 : Nat) : Int) - 1))]) (rest := []) X.fix (m_putAll l hst D dA h0 hb ha (ta) xs g hv hg 5 xs.length 0 0 4096 [] f (RowIs.nil f) (by simp; omega) (by omega) (mid_top hv) (by omega) _) (va_cwS 6 X.t (lw_S q414 q415 q44 q416) rfl rfl rfl (by decide +kernel) (pc_rmle (by decide) (by decide))) (pc_preS X hw [1, 2, 3] rfl rfl) rfl rfl hl.1 rfl (lv_room (Nat.le_of_ble_eq_true rfl)) dX8_encode_8 ⟨Nat.le_of_ble_eq_true rfl, Nat.le_of_ble_eq_true rfl⟩) rfl rfl rfl rfl (fun _ _ => pc_c00) (fun u_2 H locs hq hw => ?_)
  have hw : pc_S D A s.heap [(hc, .inr (6, [])), (h0, .inr (0, [.ref hb, .int (zI (((([] ++ encM xs 5 xs.length 0 0 4096).length : Nat) : Int))), .int (ta)])), (hb, .inl (dA 0, 400, .inl u_2)), (ha, .inl (dA 1, 24, .inl g))] H locs := hw
  have hu_2 := hq
  rw [List.nil_append] at hw hu_2
  exact exit u_2 dX8_encode_11 hu_2 hw (Nat.zero_le _) (Nat.zero_le _)
set_option maxHeartbeats 4000000 in
/-- Middles.take -/
theorem m_mid_take (l : Launch) (hst : l.stackTraces = false) (D : va_G) (dA : Nat → ClassId) (h0 hb p : Nat) (bs : List Bool) (r : Nat) (f : Nat → Int32) (hf : RowIs bs f) (hp : p ≤ bs.length) (h4 : bs.length ≤ 400) (hr : 1 ≤ r ∧ r ≤ 4097) (t : Bool) (ht : t = (tm bs p r).isNone) : px_I l yX8_take (ws_ yX8_take cX8_take 5 (some .int)) (pc_rm 3 (cond t 1 0) (cond t 6 0)) D dA [.ref h0, .int (zI (((r : Nat) : Int)))] [(h0, .inr (0, [.ref hb, .int (zI (((bs.length : Nat) : Int))), .int (zI (((p : Nat) : Int)))])), (hb, .inl (dA 0, 400, .inl f))] (fun q (_ : Unit) => t = false ∧ q = zI (((ov (tm bs p r)).1 : Nat) : Int)) (fun _ => [(h0, .inr (0, [.ref hb, .int (zI (((bs.length : Nat) : Int))), .int (zI ((((ov (tm bs p r)).2 : Nat) : Int)))])), (hb, .inl (dA 0, 400, .inl f))]) (fun E (_ : Int32) => E = xIAE ∧ t = true) (fun ta => [(h0, .inr (0, [.ref hb, .int (zI (((bs.length : Nat) : Int))), .int (ta)])), (hb, .inl (dA 0, 400, .inl f))]) := by
  refine sx_i hst (by decide) RX8 rfl (Nat.le_of_ble_eq_true rfl) ?_
  intro pg ev s mt args below meth cd R A Q hR X exit hout hthr H locs hw ls hl
  subst hR
  have hl : lv_has ls 5 [(0, .ref h0), (1, .int (zI (((r : Nat) : Int))))] := hl
  refine lv_iload_n X.x X.b dX8_take_0 rfl (lv_at hl 1 rfl) ?_
  refine cv_i (c1 := 0) (s1 := 0) X hw [] [0, 1] (wr := [(h0, .inr (0, [.ref hb, .int (zI (((bs.length : Nat) : Int))), .int (zI (((p : Nat) : Int)))])), (hb, .inl (dA 0, 400, .inl f))]) (va_runS (As := [.int (zI (((r : Nat) : Int)))]) (rest := []) X.fix (m_bitsFor l hst D dA r (by omega) _) (va_cwS 1 X.t (lw_S q420 q421 q44 q422) rfl rfl rfl (by decide +kernel) (pc_rmle (by decide) (by decide))) (pc_preS X hw [] rfl rfl) rfl rfl hl.1 rfl (lv_room (Nat.le_of_ble_eq_true rfl)) dX8_take_1 ⟨Nat.le_of_ble_eq_true rfl, Nat.le_of_ble_eq_true rfl⟩) rfl rfl rfl rfl (fun _ _ _ => pc_c00) (fun r_1 u_2 H locs hq hw => ?_)
  have hw : pc_S D A s.heap [(h0, .inr (0, [.ref hb, .int (zI (((bs.length : Nat) : Int))), .int (zI (((p : Nat) : Int)))])), (hb, .inl (dA 0, 400, .inl f))] H locs := hw
  subst hq
  have h13 : blen (r - 1) ≤ 13 := blen_max (by omega)
  have hp13 : 2 ^ (blen (r - 1)) ≤ 2 ^ 13 := Nat.pow_le_pow_right (by decide) h13
  have hrb := pm_b hr.1
  refine lv_istore_n (lv' := [(2, .int (zI (((blen (r - 1) : Nat) : Int)))), (0, .ref h0), (1, .int (zI (((r : Nat) : Int))))]) X.x X.b dX8_take_4 rfl hl (by decide) rfl (fun ls hl => ?_)
  refine z_iconst X dX8_take_5 ?_
  refine lv_iload_n X.x X.b dX8_take_6 rfl (lv_at hl 0 rfl) ?_
  refine lv_ishl X.x X.b dX8_take_7 ?_
  refine top_i (y := zI ((1 * 2 ^ (blen (r - 1)) : Nat) : Int)) (zI_shl (n := 1) (by omega) (k := (blen (r - 1))) (by omega) (by omega)) ?_
  refine lv_iload_n X.x X.b dX8_take_8 rfl (lv_at hl 2 rfl) ?_
  refine z_isub X dX8_take_9 ?_
  refine lv_istore_n (lv' := [(3, .int (zI (((1 * 2 ^ (blen (r - 1)) : Nat) : Int) - ((r : Nat) : Int)))), (2, .int (zI (((blen (r - 1) : Nat) : Int)))), (0, .ref h0), (1, .int (zI (((r : Nat) : Int))))]) X.x X.b dX8_take_10 rfl hl (by decide) rfl (fun ls hl => ?_)
  refine lv_iload_n X.x X.b dX8_take_11 rfl (lv_at hl 1 rfl) ?_
  refine z_if_ne (tgt := 17) X dX8_take_12 (by decide) (by omega) (fun c_3 => ?_) (fun c_3 => ?_)
  · skip
    refine lv_aload_n X.x X.b dX8_take_17 rfl (lv_at hl 2 rfl) ?_
    refine lv_iload_n X.x X.b dX8_take_18 rfl (lv_at hl 1 rfl) ?_
    refine z_iconst X dX8_take_19 ?_
    refine z_isub X dX8_take_20 ?_
    refine top_i (y := zI ((blen (r - 1) - 1 : Nat) : Int)) (congrArg zI (by omega)) ?_
    obtain ⟨t_4, ht_4⟩ : ∃ q : Bool, q = (decide (bs.length < p + (blen (r - 1) - 1))) := ⟨_, rfl⟩
    refine cx_i (c1 := 0) (s1 := 0) X hw [0, 1] [] (wr := []) (vx_runV (As := [.int (zI (((blen (r - 1) - 1 : Nat) : Int)))]) (rest := []) X.fix (m_Row_take l hst D dA h0 hb p bs (blen (r - 1) - 1) f hf (by omega) (by omega) (by omega) t_4 ht_4 _) (cwV 1 X.t (lw_V q573 q532 q533 q46 q534) rfl rfl rfl (by decide +kernel) (pc_rmle (by decide) (by decide))) (pc_preV X hw [0, 1] rfl rfl 0 0 rfl rfl rfl) rfl rfl hl.1 rfl (lv_room (Nat.le_of_ble_eq_true rfl)) dX8_take_21 (pc_c1 (fun h => by rw [ht_4] at h; have h := of_decide_eq_true h; rw [ht, tm, if_neg (by omega), if_pos (by omega)]; rfl))) rfl rfl rfl rfl (fun E ce q9 ux_7 H locs hq hw h1 h2 h3 => ?_) (fun r u hq => pc_c0 hq.1) (fun r_5 u_6 H locs hq hw => ?_)
    · skip
      have hw : pc_S D A s.heap [(h0, .inr (0, [.ref hb, .int (zI (((bs.length : Nat) : Int))), .int (ux_7)])), (hb, .inl (dA 0, 400, .inl f))] H locs := hw
      exact hout ux_7 h1 h2 h3 (⟨hq.1, (fun h => by rw [ht_4] at h; have h := of_decide_eq_true h; rw [ht, tm, if_neg (by omega), if_pos (by omega)]; rfl) hq.2⟩) hw (pc_c1 (fun h => by rw [ht_4] at h; have h := of_decide_eq_true h; rw [ht, tm, if_neg (by omega), if_pos (by omega)]; rfl)).1 (pc_c1 (fun h => by rw [ht_4] at h; have h := of_decide_eq_true h; rw [ht, tm, if_neg (by omega), if_pos (by omega)]; rfl)).2
    · skip
      have hw : pc_S D A s.heap [(h0, .inr (0, [.ref hb, .int (zI (((bs.length : Nat) : Int))), .int (zI (((p + (blen (r - 1) - 1) : Nat) : Int)))])), (hb, .inl (dA 0, 400, .inl f))] H locs := hw
      obtain ⟨hq, rfl⟩ := hq
      have hq : ¬ bs.length < p + (blen (r - 1) - 1) := by rw [ht_4] at hq; simpa using hq
      refine top_i (y := zI ((rdN bs p (blen (r - 1) - 1) : Nat) : Int)) rfl ?_
      have hx9 : rdN bs p (blen (r - 1) - 1) < 2 ^ (blen (r - 1) - 1) := rdN_lt bs _ (Nat.le_refl _)
      have hx8 : 2 ^ (blen (r - 1) - 1) ≤ 2 ^ 13 := Nat.pow_le_pow_right (by decide) (by omega)
      have hqa := hq
      refine lv_istore (lv' := [(4, .int (zI (((rdN bs p (blen (r - 1) - 1) : Nat) : Int)))), (3, .int (zI (((1 * 2 ^ (blen (r - 1)) : Nat) : Int) - ((r : Nat) : Int)))), (2, .int (zI (((blen (r - 1) : Nat) : Int)))), (0, .ref h0), (1, .int (zI (((r : Nat) : Int))))]) X.x X.b dX8_take_24 hl (by decide) rfl (fun ls hl => ?_)
      refine lv_iload X.x X.b dX8_take_26 (lv_at hl 0 rfl) ?_
      refine lv_iload_n X.x X.b dX8_take_28 rfl (lv_at hl 1 rfl) ?_
      refine z_icmp_ge (tgt := 37) X dX8_take_29 (by decide) (by omega) (by omega) (fun c_8 => ?_) (fun c_8 => ?_)
      · skip
        refine lv_iload X.x X.b dX8_take_37 (lv_at hl 0 rfl) ?_
        refine z_iconst X dX8_take_39 ?_
        refine lv_ishl X.x X.b dX8_take_40 ?_
        refine top_i (y := zI (((rdN bs p (blen (r - 1) - 1)) * 2 ^ 1 : Nat) : Int)) (zI_shl (n := (rdN bs p (blen (r - 1) - 1))) (by omega) (k := 1) (by omega) (by omega)) ?_
        refine lv_aload_n X.x X.b dX8_take_41 rfl (lv_at hl 3 rfl) ?_
        refine z_iconst X dX8_take_42 ?_
        obtain ⟨t_9, ht_9⟩ : ∃ q : Bool, q = (decide (bs.length < (p + (blen (r - 1) - 1)) + 1)) := ⟨_, rfl⟩
        refine cx_i (c1 := 0) (s1 := 0) X hw [0, 1] [] (wr := []) (vx_runV (As := [.int (zI 1)]) (rest := [.int (zI ((((rdN bs p (blen (r - 1) - 1)) * 2 ^ 1 : Nat) : Int)))]) X.fix (m_Row_take l hst D dA h0 hb (p + (blen (r - 1) - 1)) bs 1 f hf (by omega) (by omega) (by omega) t_9 ht_9 _) (cwV 1 X.t (lw_V q573 q532 q533 q46 q534) rfl rfl rfl (by decide +kernel) (pc_rmle (by decide) (by decide))) (pc_preV X hw [0, 1] rfl rfl 0 0 rfl rfl rfl) rfl rfl hl.1 rfl (lv_room (Nat.le_of_ble_eq_true rfl)) dX8_take_43 (pc_c1 (fun h => by rw [ht_9] at h; have h := of_decide_eq_true h; rw [ht, tm, if_neg (by omega), if_neg (by omega), if_neg (by omega), if_pos (by omega)]; rfl))) rfl rfl rfl rfl (fun E ce q9 ux_12 H locs hq hw h1 h2 h3 => ?_) (fun r u hq => pc_c0 hq.1) (fun r_10 u_11 H locs hq hw => ?_)
        · skip
          have hw : pc_S D A s.heap [(h0, .inr (0, [.ref hb, .int (zI (((bs.length : Nat) : Int))), .int (ux_12)])), (hb, .inl (dA 0, 400, .inl f))] H locs := hw
          exact hout ux_12 h1 h2 h3 (⟨hq.1, (fun h => by rw [ht_9] at h; have h := of_decide_eq_true h; rw [ht, tm, if_neg (by omega), if_neg (by omega), if_neg (by omega), if_pos (by omega)]; rfl) hq.2⟩) hw (pc_c1 (fun h => by rw [ht_9] at h; have h := of_decide_eq_true h; rw [ht, tm, if_neg (by omega), if_neg (by omega), if_neg (by omega), if_pos (by omega)]; rfl)).1 (pc_c1 (fun h => by rw [ht_9] at h; have h := of_decide_eq_true h; rw [ht, tm, if_neg (by omega), if_neg (by omega), if_neg (by omega), if_pos (by omega)]; rfl)).2
        · skip
          have hw : pc_S D A s.heap [(h0, .inr (0, [.ref hb, .int (zI (((bs.length : Nat) : Int))), .int (zI ((((p + (blen (r - 1) - 1)) + 1 : Nat) : Int)))])), (hb, .inl (dA 0, 400, .inl f))] H locs := hw
          obtain ⟨hq, rfl⟩ := hq
          have hq : ¬ bs.length < (p + (blen (r - 1) - 1)) + 1 := by rw [ht_9] at hq; simpa using hq
          refine top_i (y := zI ((rdN bs (p + (blen (r - 1) - 1)) 1 : Nat) : Int)) rfl ?_
          have hy9 : rdN bs (p + (blen (r - 1) - 1)) 1 < 2 ^ 1 := rdN_lt bs _ (Nat.le_refl _)
          refine lv_ior X.x X.b dX8_take_46 ?_
          refine top_i (y := zI ((2 * rdN bs p (blen (r - 1) - 1) + rdN bs (p + (blen (r - 1) - 1)) 1 : Nat) : Int)) ((zI_or (n := rdN bs p (blen (r - 1) - 1) * 2 ^ 1) (by omega) (m := rdN bs (p + (blen (r - 1) - 1)) 1) (by omega)).trans (congrArg (fun q : Nat => zI (q : Int)) (shl_or _ _ (by omega)))) ?_
          refine lv_iload_n X.x X.b dX8_take_47 rfl (lv_at hl 1 rfl) ?_
          refine z_isub X dX8_take_48 ?_
          refine top_i (y := zI ((2 * rdN bs p (blen (r - 1) - 1) + rdN bs (p + (blen (r - 1) - 1)) 1 - (2 ^ (blen (r - 1)) - r) : Nat) : Int)) (congrArg zI (by omega)) ?_
          have e9 : tm bs p r = some (2 * rdN bs p (blen (r - 1) - 1) + rdN bs (p + (blen (r - 1) - 1)) 1 - (2 ^ (blen (r - 1)) - r), p + (blen (r - 1) - 1) + 1) := by
            rw [tm, if_neg (by omega), if_neg (by omega), if_neg (by omega), if_neg (by omega)]
          exact exit () dX8_take_49 rfl ⟨by rw [ht, e9]; rfl, by rw [e9]; rfl⟩ (by rw [e9]; exact hw) (Nat.zero_le _) (Nat.zero_le _)
      · skip
        refine lv_iload X.x X.b dX8_take_32 (lv_at hl 0 rfl) ?_
        refine lv_goto (tgt := 49) X.x X.b dX8_take_34 (by decide) ?_
        have e9 : tm bs p r = some (rdN bs p (blen (r - 1) - 1), p + (blen (r - 1) - 1)) := by
          rw [tm, if_neg (by omega), if_neg (by omega), if_pos (by omega)]
        exact exit () dX8_take_49 rfl ⟨by rw [ht, e9]; rfl, by rw [e9]; rfl⟩ (by rw [e9]; exact hw) (Nat.zero_le _) (Nat.zero_le _)
  · skip
    refine z_iconst X dX8_take_15 ?_
    have e9 : tm bs p r = some (0, p) := by
      rw [tm, if_pos (by omega)]
    exact exit () dX8_take_16 rfl ⟨by rw [ht, e9]; rfl, by rw [e9]; rfl⟩ (by rw [e9]; exact hw) (Nat.zero_le _) (Nat.zero_le _)
set_option maxHeartbeats 4000000 in
/-- Middles.takeAll -/
theorem m_takeAll (l : Launch) (hst : l.stackTraces = false) (D : va_G) (dA : Nat → ClassId) (h0 hb ha : Nat) (bs : List Bool) (f : Nat → Int32) (hf : RowIs bs f) (h4 : bs.length ≤ 400) : ∀ (d : Nat) (n s0 low hi p : Nat) (g : Nat → Int32) (hn : n < 2 ^ d) (hl : low + n ≤ hi) (hhi : hi ≤ 4096) (hs : s0 + n ≤ 24) (hp : p ≤ bs.length) (t : Bool) (ht : t = (decM bs d n low hi p).isNone), px_V l yX8_takeAll (ws_ yX8_takeAll cX8_takeAll 8 none) (pc_rm (4 + d) (cond t 1 0) (cond t 6 0)) D dA [.ref h0, .ref ha, .int (zI (((s0 : Nat) : Int))), .int (zI (((n : Nat) : Int))), .int (zI (((low : Nat) : Int))), .int (zI (((hi : Nat) : Int) - 1))] [(h0, .inr (0, [.ref hb, .int (zI (((bs.length : Nat) : Int))), .int (zI (((p : Nat) : Int)))])), (hb, .inl (dA 0, 400, .inl f)), (ha, .inl (dA 1, 24, .inl g))] (fun u : (Nat → Int32) × Int32 => t = false ∧ ∃ ys q, decM bs d n low hi p = some (ys, q) ∧ u.2 = zI ((q : Nat) : Int) ∧ Seg ys s0 u.1 ∧ Fr s0 n u.1 g) (fun u : (Nat → Int32) × Int32 => [(h0, .inr (0, [.ref hb, .int (zI (((bs.length : Nat) : Int))), .int (u.2)])), (hb, .inl (dA 0, 400, .inl f)), (ha, .inl (dA 1, 24, .inl u.1))]) (fun E (_ : (Nat → Int32) × Int32) => E = xIAE ∧ t = true) (fun u : (Nat → Int32) × Int32 => [(h0, .inr (0, [.ref hb, .int (zI (((bs.length : Nat) : Int))), .int (u.2)])), (hb, .inl (dA 0, 400, .inl f)), (ha, .inl (dA 1, 24, .inl u.1))]) := by
  intro d
  induction d with
  | zero =>
    intro n s0 low hi p g hn hl9 hhi hs hp t ht
    refine sx_v hst (by decide) RX8 rfl (Nat.le_of_ble_eq_true rfl) ?_
    intro pg ev s mt args below meth cd R A Q hR X exit hout hthr H locs hw ls hl
    subst hR
    have hl : lv_has ls 8 [(0, .ref h0), (1, .ref ha), (2, .int (zI (((s0 : Nat) : Int)))), (3, .int (zI (((n : Nat) : Int)))), (4, .int (zI (((low : Nat) : Int)))), (5, .int (zI (((hi : Nat) : Int) - 1)))] := hl
    have hn0 : n = 0 := by simpa using hn
    refine lv_iload_n X.x X.b dX8_takeAll_0 rfl (lv_at hl 3 rfl) ?_
    refine z_if_ne (tgt := 5) X dX8_takeAll_1 (by decide) (by omega) (fun c_1 => ?_) (fun c_1 => ?_)
    · skip
      omega
    · skip
      exact exit (g, zI ((p : Nat) : Int)) dX8_takeAll_4 ⟨by rw [ht]; rfl, [], p, rfl, rfl, Seg.nil, Fr.rfl⟩ hw (Nat.zero_le _) (Nat.zero_le _)
  | succ d ih =>
    intro n s0 low hi p g hn hl9 hhi hs hp t ht
    refine sx_v hst (by decide) RX8 rfl (Nat.le_of_ble_eq_true rfl) ?_
    intro pg ev s mt args below meth cd R A Q hR X exit hout hthr H locs hw ls hl
    subst hR
    have hl : lv_has ls 8 [(0, .ref h0), (1, .ref ha), (2, .int (zI (((s0 : Nat) : Int)))), (3, .int (zI (((n : Nat) : Int)))), (4, .int (zI (((low : Nat) : Int)))), (5, .int (zI (((hi : Nat) : Int) - 1)))] := hl
    have hpd : 2 ^ (d + 1) = 2 ^ d * 2 := Nat.pow_succ _ _
    refine lv_iload_n X.x X.b dX8_takeAll_0 rfl (lv_at hl 3 rfl) ?_
    refine z_if_ne (tgt := 5) X dX8_takeAll_1 (by decide) (by omega) (fun c_1 => ?_) (fun c_1 => ?_)
    · skip
      have hn0 : 0 < n := by omega
      refine lv_iload_n X.x X.b dX8_takeAll_5 rfl (lv_at hl 3 rfl) ?_
      refine z_iconst X dX8_takeAll_6 ?_
      refine lv_idiv X.x X.b dX8_takeAll_7 (by decide) ?_
      refine top_i (y := zI ((n / 2 : Nat) : Int)) (zI_div (n := n) (by omega) (d := 2) (by omega)) ?_
      refine lv_istore (lv' := [(6, .int (zI (((n / 2 : Nat) : Int)))), (0, .ref h0), (1, .ref ha), (2, .int (zI (((s0 : Nat) : Int)))), (3, .int (zI (((n : Nat) : Int)))), (4, .int (zI (((low : Nat) : Int)))), (5, .int (zI (((hi : Nat) : Int) - 1)))]) X.x X.b dX8_takeAll_8 hl (by decide) rfl (fun ls hl => ?_)
      refine lv_iload X.x X.b dX8_takeAll_10 (lv_at hl 5 rfl) ?_
      refine lv_iload X.x X.b dX8_takeAll_12 (lv_at hl 0 rfl) ?_
      refine z_iadd X dX8_takeAll_14 ?_
      refine top_i (y := zI ((low + (n / 2) : Nat) : Int)) (congrArg zI (by omega)) ?_
      refine lv_aload_n X.x X.b dX8_takeAll_15 rfl (lv_at hl 1 rfl) ?_
      refine lv_iload X.x X.b dX8_takeAll_16 (lv_at hl 6 rfl) ?_
      refine lv_iload X.x X.b dX8_takeAll_18 (lv_at hl 5 rfl) ?_
      refine z_isub X dX8_takeAll_20 ?_
      refine lv_iload_n X.x X.b dX8_takeAll_21 rfl (lv_at hl 4 rfl) ?_
      refine z_isub X dX8_takeAll_22 ?_
      refine z_iconst X dX8_takeAll_23 ?_
      refine z_iadd X dX8_takeAll_24 ?_
      refine top_i (y := zI ((hi - low - n + 1 : Nat) : Int)) (congrArg zI (by omega)) ?_
      obtain ⟨t_2, ht_2⟩ : ∃ q : Bool, q = ((tm bs p (hi - low - n + 1)).isNone) := ⟨_, rfl⟩
      refine cx_i (c1 := 0) (s1 := 0) X hw [0, 1] [2] (wr := [(ha, .inl (dA 1, 24, .inl g))]) (vx_runS (As := [.ref h0, .int (zI (((hi - low - n + 1 : Nat) : Int)))]) (rest := [.int (zI (((low + (n / 2) : Nat) : Int)))]) X.fix (m_mid_take l hst D dA h0 hb p bs (hi - low - n + 1) f hf (by omega) h4 (by omega) t_2 ht_2 _) (va_cwS 2 X.t (lw_S q570 q571 q44 q572) rfl rfl rfl (by decide +kernel) (pc_rmle (by omega) (by decide))) (pc_preS X hw [0, 1] rfl rfl) rfl rfl hl.1 rfl (lv_room (Nat.le_of_ble_eq_true rfl)) dX8_takeAll_25 (pc_c1 (fun h => by rw [ht_2] at h; rw [ht, decM_tm hn0 (Option.isNone_iff_eq_none.mp h)]; rfl))) rfl rfl rfl rfl (fun E ce q9 ux_5 H locs hq hw h1 h2 h3 => ?_) (fun r u hq => pc_c0 hq.1) (fun r_3 u_4 H locs hq hw => ?_)
      · skip
        have hw : pc_S D A s.heap [(ha, .inl (dA 1, 24, .inl g)), (h0, .inr (0, [.ref hb, .int (zI (((bs.length : Nat) : Int))), .int (ux_5)])), (hb, .inl (dA 0, 400, .inl f))] H locs := hw
        have hw : pc_S D A s.heap [(h0, .inr (0, [.ref hb, .int (zI (((bs.length : Nat) : Int))), .int (ux_5)])), (hb, .inl (dA 0, 400, .inl f)), (ha, .inl (dA 1, 24, .inl g))] H locs := hw.sub [1, 2, 0] rfl rfl
        exact hout (g, ux_5) h1 h2 h3 (⟨hq.1, (fun h => by rw [ht_2] at h; rw [ht, decM_tm hn0 (Option.isNone_iff_eq_none.mp h)]; rfl) hq.2⟩) hw (pc_c1 (fun h => by rw [ht_2] at h; rw [ht, decM_tm hn0 (Option.isNone_iff_eq_none.mp h)]; rfl)).1 (pc_c1 (fun h => by rw [ht_2] at h; rw [ht, decM_tm hn0 (Option.isNone_iff_eq_none.mp h)]; rfl)).2
      · skip
        have hw : pc_S D A s.heap [(ha, .inl (dA 1, 24, .inl g)), (h0, .inr (0, [.ref hb, .int (zI (((bs.length : Nat) : Int))), .int (zI ((((ov (tm bs p (hi - low - n + 1))).2 : Nat) : Int)))])), (hb, .inl (dA 0, 400, .inl f))] H locs := hw
        obtain ⟨hq, rfl⟩ := hq
        rw [ht_2] at hq
        obtain ⟨⟨x9, p1⟩, hq1⟩ := not_isNone hq
        rw [hq1] at hw
        have hle := tm_lt (by omega) hp hq1
        dsimp only at hle
        refine top_i (y := zI ((x9 : Nat) : Int)) (by rw [hq1]; rfl) ?_
        have hw : pc_S D A s.heap [(ha, .inl (dA 1, 24, .inl g)), (h0, .inr (0, [.ref hb, .int (zI (((bs.length : Nat) : Int))), .int (zI (((p1 : Nat) : Int)))])), (hb, .inl (dA 0, 400, .inl f))] H locs := hw
        refine z_iadd X dX8_takeAll_28 ?_
        refine top_i (y := zI (((low + (n / 2)) + x9 : Nat) : Int)) (congrArg zI (by omega)) ?_
        refine lv_istore (lv' := [(7, .int (zI ((((low + (n / 2)) + x9 : Nat) : Int)))), (6, .int (zI (((n / 2 : Nat) : Int)))), (0, .ref h0), (1, .ref ha), (2, .int (zI (((s0 : Nat) : Int)))), (3, .int (zI (((n : Nat) : Int)))), (4, .int (zI (((low : Nat) : Int)))), (5, .int (zI (((hi : Nat) : Int) - 1)))]) X.x X.b dX8_takeAll_29 hl (by decide) rfl (fun ls hl => ?_)
        refine lv_aload_n X.x X.b dX8_takeAll_31 rfl (lv_at hl 3 rfl) ?_
        refine lv_iload_n X.x X.b dX8_takeAll_32 rfl (lv_at hl 4 rfl) ?_
        refine lv_iload X.x X.b dX8_takeAll_33 (lv_at hl 1 rfl) ?_
        refine z_iadd X dX8_takeAll_35 ?_
        refine top_i (y := zI ((s0 + (n / 2) : Nat) : Int)) (congrArg zI (by omega)) ?_
        refine lv_iload X.x X.b dX8_takeAll_36 (lv_at hl 0 rfl) ?_
        refine lv_i2s X.x X.b dX8_takeAll_38 (zI_short (by omega)) ?_
        refine z_sast X hw 0 (s0 + (n / 2)) rfl (by decide) (by omega) (zI_nars (by omega)) dX8_takeAll_39 (fun H locs hw => ?_)
        have hw : pc_S D A s.heap [(ha, .inl (dA 1, 24, .inl (upd g (s0 + (n / 2)) (zI (((low + (n / 2)) + x9 : Nat) : Int))))), (h0, .inr (0, [.ref hb, .int (zI (((bs.length : Nat) : Int))), .int (zI (((p1 : Nat) : Int)))])), (hb, .inl (dA 0, 400, .inl f))] H locs := hw
        refine lv_aload_n X.x X.b dX8_takeAll_40 rfl (lv_at hl 2 rfl) ?_
        refine lv_aload_n X.x X.b dX8_takeAll_41 rfl (lv_at hl 3 rfl) ?_
        refine lv_iload_n X.x X.b dX8_takeAll_42 rfl (lv_at hl 4 rfl) ?_
        refine lv_iload X.x X.b dX8_takeAll_43 (lv_at hl 1 rfl) ?_
        refine lv_iload X.x X.b dX8_takeAll_45 (lv_at hl 6 rfl) ?_
        refine lv_iload X.x X.b dX8_takeAll_47 (lv_at hl 0 rfl) ?_
        refine z_iconst X dX8_takeAll_49 ?_
        refine z_isub X dX8_takeAll_50 ?_
        obtain ⟨t_6, ht_6⟩ : ∃ q : Bool, q = ((decM bs d (n / 2) low (low + n / 2 + x9) p1).isNone) := ⟨_, rfl⟩
        refine cx_v (c1 := 0) (s1 := 0) X hw [1, 2, 0] [] (wr := []) (vx_runS (As := [.ref h0, .ref ha, .int (zI (((s0 : Nat) : Int))), .int (zI (((n / 2 : Nat) : Int))), .int (zI (((low : Nat) : Int))), .int (zI ((((low + (n / 2)) + x9 : Nat) : Int) - 1))]) (rest := []) X.fix (ih (n / 2) s0 low (low + n / 2 + x9) p1 (upd g (s0 + (n / 2)) (zI (((low + (n / 2)) + x9 : Nat) : Int))) (by omega) (by omega) (by omega) (by omega) (by omega) t_6 ht_6 _) (va_cwS 6 X.t (lw_S q567 q568 q44 q569) rfl rfl rfl (by decide +kernel) (pc_rmle (by omega) (by decide))) (pc_preS X hw [1, 2, 0] rfl rfl) rfl rfl hl.1 rfl (lv_room (Nat.le_of_ble_eq_true rfl)) dX8_takeAll_51 (pc_c1 (fun h => by rw [ht_6] at h; rw [ht, decM_l hn0 hq1 (Option.isNone_iff_eq_none.mp h)]; rfl))) rfl rfl rfl rfl (fun E ce q9 ux_9 H locs hq hw h1 h2 h3 => ?_) (fun u hq => pc_c0 hq.1) (fun u_8 H locs hq hw => ?_)
        · skip
          have hw : pc_S D A s.heap [(h0, .inr (0, [.ref hb, .int (zI (((bs.length : Nat) : Int))), .int (ux_9.2)])), (hb, .inl (dA 0, 400, .inl f)), (ha, .inl (dA 1, 24, .inl ux_9.1))] H locs := hw
          exact hout (ux_9.1, ux_9.2) h1 h2 h3 (⟨hq.1, (fun h => by rw [ht_6] at h; rw [ht, decM_l hn0 hq1 (Option.isNone_iff_eq_none.mp h)]; rfl) hq.2⟩) hw (pc_c1 (fun h => by rw [ht_6] at h; rw [ht, decM_l hn0 hq1 (Option.isNone_iff_eq_none.mp h)]; rfl)).1 (pc_c1 (fun h => by rw [ht_6] at h; rw [ht, decM_l hn0 hq1 (Option.isNone_iff_eq_none.mp h)]; rfl)).2
        · skip
          obtain ⟨f_l, a_l⟩ := u_8
          have hw : pc_S D A s.heap [(h0, .inr (0, [.ref hb, .int (zI (((bs.length : Nat) : Int))), .int (a_l)])), (hb, .inl (dA 0, 400, .inl f)), (ha, .inl (dA 1, 24, .inl f_l))] H locs := hw
          obtain ⟨hq, y_l, q_l, hd_l, hat, hsg_l, hfr_l⟩ := hq
          dsimp only at hat hsg_l hfr_l
          subst hat
          have hle_l := decM_le _ _ _ _ _ _ _ (by omega) (by omega) (by omega) hd_l
          have hw : pc_S D A s.heap [(h0, .inr (0, [.ref hb, .int (zI (((bs.length : Nat) : Int))), .int (zI (((q_l : Nat) : Int)))])), (hb, .inl (dA 0, 400, .inl f)), (ha, .inl (dA 1, 24, .inl f_l))] H locs := hw
          refine lv_aload_n X.x X.b dX8_takeAll_54 rfl (lv_at hl 2 rfl) ?_
          refine lv_aload_n X.x X.b dX8_takeAll_55 rfl (lv_at hl 3 rfl) ?_
          refine lv_iload_n X.x X.b dX8_takeAll_56 rfl (lv_at hl 4 rfl) ?_
          refine lv_iload X.x X.b dX8_takeAll_57 (lv_at hl 1 rfl) ?_
          refine z_iadd X dX8_takeAll_59 ?_
          refine top_i (y := zI ((s0 + (n / 2) : Nat) : Int)) (congrArg zI (by omega)) ?_
          refine z_iconst X dX8_takeAll_60 ?_
          refine z_iadd X dX8_takeAll_61 ?_
          refine top_i (y := zI (((s0 + (n / 2)) + 1 : Nat) : Int)) (congrArg zI (by omega)) ?_
          refine lv_iload_n X.x X.b dX8_takeAll_62 rfl (lv_at hl 5 rfl) ?_
          refine z_iconst X dX8_takeAll_63 ?_
          refine z_isub X dX8_takeAll_64 ?_
          refine lv_iload X.x X.b dX8_takeAll_65 (lv_at hl 1 rfl) ?_
          refine z_isub X dX8_takeAll_67 ?_
          refine top_i (y := zI ((n - 1 - n / 2 : Nat) : Int)) (congrArg zI (by omega)) ?_
          refine lv_iload X.x X.b dX8_takeAll_68 (lv_at hl 0 rfl) ?_
          refine z_iconst X dX8_takeAll_70 ?_
          refine z_iadd X dX8_takeAll_71 ?_
          refine top_i (y := zI ((((low + (n / 2)) + x9) + 1 : Nat) : Int)) (congrArg zI (by omega)) ?_
          refine lv_iload X.x X.b dX8_takeAll_72 (lv_at hl 7 rfl) ?_
          obtain ⟨t_10, ht_10⟩ : ∃ q : Bool, q = ((decM bs d (n - 1 - n / 2) ((low + n / 2 + x9) + 1) hi q_l).isNone) := ⟨_, rfl⟩
          refine cx_v (c1 := 0) (s1 := 0) X hw [0, 1, 2] [] (wr := []) (vx_runS (As := [.ref h0, .ref ha, .int (zI ((((s0 + (n / 2)) + 1 : Nat) : Int))), .int (zI (((n - 1 - n / 2 : Nat) : Int))), .int (zI (((((low + (n / 2)) + x9) + 1 : Nat) : Int))), .int (zI (((hi : Nat) : Int) - 1))]) (rest := []) X.fix (ih (n - 1 - n / 2) (s0 + n / 2 + 1) ((low + n / 2 + x9) + 1) hi q_l f_l (by omega) (by omega) (by omega) (by omega) (by omega) t_10 ht_10 _) (va_cwS 6 X.t (lw_S q567 q568 q44 q569) rfl rfl rfl (by decide +kernel) (pc_rmle (by omega) (by decide))) (pc_preS X hw [0, 1, 2] rfl rfl) rfl rfl hl.1 rfl (lv_room (Nat.le_of_ble_eq_true rfl)) dX8_takeAll_74 (pc_c1 (fun h => by rw [ht_10] at h; rw [ht, decM_r hn0 hq1 hd_l (Option.isNone_iff_eq_none.mp h)]; rfl))) rfl rfl rfl rfl (fun E ce q9 ux_13 H locs hq hw h1 h2 h3 => ?_) (fun u hq => pc_c0 hq.1) (fun u_12 H locs hq hw => ?_)
          · skip
            have hw : pc_S D A s.heap [(h0, .inr (0, [.ref hb, .int (zI (((bs.length : Nat) : Int))), .int (ux_13.2)])), (hb, .inl (dA 0, 400, .inl f)), (ha, .inl (dA 1, 24, .inl ux_13.1))] H locs := hw
            exact hout (ux_13.1, ux_13.2) h1 h2 h3 (⟨hq.1, (fun h => by rw [ht_10] at h; rw [ht, decM_r hn0 hq1 hd_l (Option.isNone_iff_eq_none.mp h)]; rfl) hq.2⟩) hw (pc_c1 (fun h => by rw [ht_10] at h; rw [ht, decM_r hn0 hq1 hd_l (Option.isNone_iff_eq_none.mp h)]; rfl)).1 (pc_c1 (fun h => by rw [ht_10] at h; rw [ht, decM_r hn0 hq1 hd_l (Option.isNone_iff_eq_none.mp h)]; rfl)).2
          · skip
            obtain ⟨f_r, a_r⟩ := u_12
            have hw : pc_S D A s.heap [(h0, .inr (0, [.ref hb, .int (zI (((bs.length : Nat) : Int))), .int (a_r)])), (hb, .inl (dA 0, 400, .inl f)), (ha, .inl (dA 1, 24, .inl f_r))] H locs := hw
            obtain ⟨hq, y_r, q_r, hd_r, hat, hsg_r, hfr_r⟩ := hq
            dsimp only at hat hsg_r hfr_r
            subst hat
            have hle_r := decM_le _ _ _ _ _ _ _ (by omega) (by omega) (by omega) hd_r
            have hw : pc_S D A s.heap [(h0, .inr (0, [.ref hb, .int (zI (((bs.length : Nat) : Int))), .int (zI (((q_r : Nat) : Int)))])), (hb, .inl (dA 0, 400, .inl f)), (ha, .inl (dA 1, 24, .inl f_r))] H locs := hw
            have hj := seg_join hle_l.1 hle_r.1 hsg_l hfr_l hsg_r hfr_r
            rw [show n / 2 + 1 + (n - 1 - n / 2) = n from by omega] at hj
            have hdk := decM_ok hn0 hq1 hd_l hd_r
            exact exit (f_r, zI ((q_r : Nat) : Int)) dX8_takeAll_77 ⟨by rw [ht, hdk]; rfl, _, _, hdk, rfl, hj.1, hj.2⟩ hw (Nat.zero_le _) (Nat.zero_le _)
    · skip
      have hn0 : n = 0 := by omega
      subst hn0
      exact exit (g, zI ((p : Nat) : Int)) dX8_takeAll_4 ⟨by rw [ht, decM_0]; rfl, [], p, decM_0 _, rfl, Seg.nil, Fr.rfl⟩ hw (Nat.zero_le _) (Nat.zero_le _)
set_option maxHeartbeats 4000000 in
/-- decode, PostingCodes$Middles -/
theorem m_dec_5 (l : Launch) (hst : l.stackTraces = false) (D : va_G) (dA : Nat → ClassId) (hc h0 hb ha : Nat) (bs : List Bool) (k n : Nat) (f g : Nat → Int32) (hf : RowIs bs f) (h4 : bs.length ≤ 400) (hk : k ≤ 7) (hn : n ≤ 24) (t : Bool) (ht : t = (decM bs 5 n 0 4096 0).isNone) : px_V l yX8_decode (ws_ yX8_decode cX8_decode 5 none) (pc_rm 10 (cond t 1 0) (cond t 6 0)) D dA [.ref hc, .ref h0, .ref ha, .int (zI (((n : Nat) : Int))), .int (zI (((k : Nat) : Int)))] [(hc, .inr (6, [])), (h0, .inr (0, [.ref hb, .int (zI (((bs.length : Nat) : Int))), .int (zI 0)])), (hb, .inl (dA 0, 400, .inl f)), (ha, .inl (dA 1, 24, .inl g))] (fun u : (Nat → Int32) × Int32 => t = false ∧ ∃ ys q, decM bs 5 n 0 4096 0 = some (ys, q) ∧ ArrIs ys u.1) (fun u : (Nat → Int32) × Int32 => [(hc, .inr (6, [])), (h0, .inr (0, [.ref hb, .int (zI (((bs.length : Nat) : Int))), .int (u.2)])), (hb, .inl (dA 0, 400, .inl f)), (ha, .inl (dA 1, 24, .inl u.1))]) (fun E (_ : (Nat → Int32) × Int32) => E = xIAE ∧ t = true) (fun u : (Nat → Int32) × Int32 => [(hc, .inr (6, [])), (h0, .inr (0, [.ref hb, .int (zI (((bs.length : Nat) : Int))), .int (u.2)])), (hb, .inl (dA 0, 400, .inl f)), (ha, .inl (dA 1, 24, .inl u.1))]) := by
  refine sx_v hst (by decide) RX8 rfl (Nat.le_of_ble_eq_true rfl) ?_
  intro pg ev s mt args below meth cd R A Q hR X exit hout hthr H locs hw ls hl
  subst hR
  have hl : lv_has ls 5 [(0, .ref hc), (1, .ref h0), (2, .ref ha), (3, .int (zI (((n : Nat) : Int)))), (4, .int (zI (((k : Nat) : Int))))] := hl
  refine lv_aload_n X.x X.b dX8_decode_0 rfl (lv_at hl 1 rfl) ?_
  refine lv_aload_n X.x X.b dX8_decode_1 rfl (lv_at hl 2 rfl) ?_
  refine z_iconst X dX8_decode_2 ?_
  refine lv_iload_n X.x X.b dX8_decode_3 rfl (lv_at hl 3 rfl) ?_
  refine z_iconst X dX8_decode_4 ?_
  refine z_sipush X dX8_decode_5 (by decide) ?_
  refine top_i (y := zI (((4096 : Nat) : Int) - 1)) rfl ?_
  refine cx_v (c1 := 0) (s1 := 0) X hw [1, 2, 3] [0] (wr := [(hc, .inr (6, []))]) (vx_runS (As := [.ref h0, .ref ha, .int (zI 0), .int (zI (((n : Nat) : Int))), .int (zI 0), .int (zI (((4096 : Nat) : Int) - 1))]) (rest := []) X.fix (m_takeAll l hst D dA h0 hb ha bs f hf h4 5 n 0 0 4096 0 g (by omega) (by omega) (by omega) (by omega) (by omega) t ht _) (va_cwS 6 X.t (lw_S q567 q568 q44 q569) rfl rfl rfl (by decide +kernel) (pc_rmle (by decide) (by decide))) (pc_preS X hw [1, 2, 3] rfl rfl) rfl rfl hl.1 rfl (lv_room (Nat.le_of_ble_eq_true rfl)) dX8_decode_8 (pc_c1 id)) rfl rfl rfl rfl (fun E ce q9 ux_3 H locs hq hw h1 h2 h3 => ?_) (fun u hq => pc_c0 hq.1) (fun u_2 H locs hq hw => ?_)
  · skip
    have hw : pc_S D A s.heap [(hc, .inr (6, [])), (h0, .inr (0, [.ref hb, .int (zI (((bs.length : Nat) : Int))), .int (ux_3.2)])), (hb, .inl (dA 0, 400, .inl f)), (ha, .inl (dA 1, 24, .inl ux_3.1))] H locs := hw
    exact hout (ux_3.1, ux_3.2) h1 h2 h3 (⟨hq.1, id hq.2⟩) hw (pc_c1 id).1 (pc_c1 id).2
  · skip
    obtain ⟨f1, a1⟩ := u_2
    have hw : pc_S D A s.heap [(hc, .inr (6, [])), (h0, .inr (0, [.ref hb, .int (zI (((bs.length : Nat) : Int))), .int (a1)])), (hb, .inl (dA 0, 400, .inl f)), (ha, .inl (dA 1, 24, .inl f1))] H locs := hw
    obtain ⟨hq, ys, q, hd, hat, hsg, hfr⟩ := hq
    dsimp only at hat hsg hfr
    subst hat
    have hw : pc_S D A s.heap [(hc, .inr (6, [])), (h0, .inr (0, [.ref hb, .int (zI (((bs.length : Nat) : Int))), .int (zI (((q : Nat) : Int)))])), (hb, .inl (dA 0, 400, .inl f)), (ha, .inl (dA 1, 24, .inl f1))] H locs := hw
    exact exit (f1, zI ((q : Nat) : Int)) dX8_decode_11 ⟨hq, ys, q, hd, fun j hj => by have := hsg j hj; rwa [Nat.zero_add] at this⟩ hw (Nat.zero_le _) (Nat.zero_le _)
