/-! READING; FRAMES, SPLIT -/
set_option maxRecDepth 100000
set_option maxHeartbeats 4000000 in
/-- decode, PostingCodes$Bytes -/
theorem m_dec_0 (l : Launch) (hst : l.stackTraces = false) (D : va_G) (dA : Nat → ClassId) (hc h0 hb ha : Nat) (bs : List Bool) (k n : Nat) (f g : Nat → Int32) (hf : RowIs bs f) (h4 : bs.length ≤ 400) (hk : k ≤ 7) (hn : n ≤ 24) (t : Bool) (ht : t = (decP 0 k bs n).isNone) : px_V l yX2_decode (ws_ yX2_decode cX2_decode 6 none) (pc_rm 5 (cond t 1 0) (cond t 6 0)) D dA [.ref hc, .ref h0, .ref ha, .int (zI (((n : Nat) : Int))), .int (zI (((k : Nat) : Int)))] [(hc, .inr (1, [])), (h0, .inr (0, [.ref hb, .int (zI (((bs.length : Nat) : Int))), .int (zI 0)])), (hb, .inl (dA 0, 400, .inl f)), (ha, .inl (dA 1, 24, .inl g))] (fun u : (Nat → Int32) × Int32 => t = false ∧ ∃ ys q, decP 0 k bs n = some (ys, q) ∧ ArrIs ys u.1) (fun u : (Nat → Int32) × Int32 => [(hc, .inr (1, [])), (h0, .inr (0, [.ref hb, .int (zI (((bs.length : Nat) : Int))), .int (u.2)])), (hb, .inl (dA 0, 400, .inl f)), (ha, .inl (dA 1, 24, .inl u.1))]) (fun E (_ : (Nat → Int32) × Int32) => E = xIAE ∧ t = true) (fun u : (Nat → Int32) × Int32 => [(hc, .inr (1, [])), (h0, .inr (0, [.ref hb, .int (zI (((bs.length : Nat) : Int))), .int (u.2)])), (hb, .inl (dA 0, 400, .inl f)), (ha, .inl (dA 1, 24, .inl u.1))]) := by
  refine sx_v hst (by decide) RX2 rfl (Nat.le_of_ble_eq_true rfl) ?_
  intro pg ev s mt args below meth cd R A Q hR X exit hout hthr H locs hw ls hl
  subst hR
  have hl : lv_has ls 6 [(0, .ref hc), (1, .ref h0), (2, .ref ha), (3, .int (zI (((n : Nat) : Int)))), (4, .int (zI (((k : Nat) : Int))))] := hl
  refine z_iconst X dX2_decode_0 ?_
  refine lv_istore (lv' := [(5, .int (zI 0)), (0, .ref hc), (1, .ref h0), (2, .ref ha), (3, .int (zI (((n : Nat) : Int)))), (4, .int (zI (((k : Nat) : Int))))]) X.x X.b dX2_decode_1 hl (by decide) rfl (fun ls hl => ?_)
  have B3 : ∀ (NN : Nat) (ys : List Nat) (p : Nat) (g : Nat → Int32) (hd : decP 0 k bs ys.length = some (ys, p)) (hs : Small ys) (hfa : ArrIs ys g) (hp : p ≤ bs.length) (hyn : ys.length ≤ n) (hNN : n - ys.length < NN) (H : Heap) (locs : List Loc), pc_S D A s.heap [(hc, .inr (1, [])), (h0, .inr (0, [.ref hb, .int (zI (((bs.length : Nat) : Int))), .int (zI (((p : Nat) : Int)))])), (hb, .inl (dA 0, 400, .inl f)), (ha, .inl (dA 1, 24, .inl g))] H locs → ∀ ls : Array Slot, lv_has ls 6 [(0, .ref hc), (1, .ref h0), (2, .ref ha), (3, .int (zI (((n : Nat) : Int)))), (4, .int (zI (((k : Nat) : Int)))), (5, .int (zI (((ys.length : Nat) : Int))))] → W pg l ev (pc_rm 5 (cond t 1 0) (cond t 6 0)) s mt args below meth cd H locs 0 0 Q (F0 mt 3 ls []) := by
    intro NN
    induction NN with
    | zero => intro ys p g hd hs hfa hp hyn hNN; exact absurd hNN (Nat.not_lt_zero _)
    | succ NN ih3 =>
      intro ys p g hd hs hfa hp hyn hNN H locs hw ls hl
      refine lv_iload X.x X.b dX2_decode_3 (lv_at hl 5 rfl) ?_
      refine lv_iload_n X.x X.b dX2_decode_5 rfl (lv_at hl 3 rfl) ?_
      refine z_icmp_ge (tgt := 28) X dX2_decode_6 (by decide) (by omega) (by omega) (fun c_1 => ?_) (fun c_1 => ?_)
      · skip
        have hyn9 : ys.length = n := by omega
        rw [hyn9] at hd
        exact exit (g, zI ((p : Nat) : Int)) dX2_decode_28 ⟨by rw [ht, hd]; rfl, ys, p, hd, hfa⟩ hw (Nat.zero_le _) (Nat.zero_le _)
      · skip
        refine lv_aload_n X.x X.b dX2_decode_9 rfl (lv_at hl 2 rfl) ?_
        refine lv_iload X.x X.b dX2_decode_10 (lv_at hl 5 rfl) ?_
        refine lv_aload_n X.x X.b dX2_decode_12 rfl (lv_at hl 0 rfl) ?_
        refine lv_aload_n X.x X.b dX2_decode_13 rfl (lv_at hl 1 rfl) ?_
        refine lv_iload X.x X.b dX2_decode_14 (lv_at hl 4 rfl) ?_
        obtain ⟨t_2, ht_2⟩ : ∃ q : Bool, q = ((tkC 0 k bs p).isNone) := ⟨_, rfl⟩
        refine cx_i (c1 := 0) (s1 := 0) X hw [1, 2] [0, 3] (wr := [(hc, .inr (1, [])), (ha, .inl (dA 1, 24, .inl g))]) (vx_runU (As := [.ref h0, .int (zI (((k : Nat) : Int)))]) (rest := [.int (zI (((ys.length : Nat) : Int))), .ref ha]) X.fix (m_one_take_0 l hst D dA hc h0 hb p bs k f hf (by omega) (by omega) (by omega) t_2 ht_2 _) (va_cwA (x := (mn_ "PostingCodes$OfGaps" "take" "(LPostingCodes$Row;I)I")) (owner := "PostingCodes$OfGaps") (C := RX3) 2 X.t (lw_U q524 q526 q527 q528 q39 q529) rfl rfl rfl (pc_ndt X.N) (by decide +kernel) (pc_rmle (by decide) (by decide))) (pc_preV X hw [1, 2] rfl rfl 1 0 rfl rfl rfl) rfl rfl hl.1 rfl (lv_room (Nat.le_of_ble_eq_true rfl)) dX2_decode_16 (pc_c1 (fun h => by rw [ht_2] at h; rw [ht, decP_mono (decP_tk hd (Option.isNone_iff_eq_none.mp h)) (by omega)]; rfl))) rfl rfl rfl rfl (fun E ce q9 ux_5 H locs hq hw h1 h2 h3 => ?_) (fun r u hq => pc_c0 hq.1) (fun r_3 u_4 H locs hq hw => ?_)
        · skip
          have hw : pc_S D A s.heap [(hc, .inr (1, [])), (ha, .inl (dA 1, 24, .inl g)), (h0, .inr (0, [.ref hb, .int (zI (((bs.length : Nat) : Int))), .int (ux_5)])), (hb, .inl (dA 0, 400, .inl f))] H locs := hw
          have hw : pc_S D A s.heap [(hc, .inr (1, [])), (h0, .inr (0, [.ref hb, .int (zI (((bs.length : Nat) : Int))), .int (ux_5)])), (hb, .inl (dA 0, 400, .inl f)), (ha, .inl (dA 1, 24, .inl g))] H locs := hw.sub [0, 2, 3, 1] rfl rfl
          exact hout (g, ux_5) h1 h2 h3 (⟨hq.1, (fun h => by rw [ht_2] at h; rw [ht, decP_mono (decP_tk hd (Option.isNone_iff_eq_none.mp h)) (by omega)]; rfl) hq.2⟩) hw (pc_c1 (fun h => by rw [ht_2] at h; rw [ht, decP_mono (decP_tk hd (Option.isNone_iff_eq_none.mp h)) (by omega)]; rfl)).1 (pc_c1 (fun h => by rw [ht_2] at h; rw [ht, decP_mono (decP_tk hd (Option.isNone_iff_eq_none.mp h)) (by omega)]; rfl)).2
        · skip
          have hw : pc_S D A s.heap [(hc, .inr (1, [])), (ha, .inl (dA 1, 24, .inl g)), (h0, .inr (0, [.ref hb, .int (zI (((bs.length : Nat) : Int))), .int (zI ((((ov (tkC 0 k bs p)).2 : Nat) : Int)))])), (hb, .inl (dA 0, 400, .inl f))] H locs := hw
          obtain ⟨hq, rfl⟩ := hq
          rw [ht_2] at hq
          obtain ⟨⟨hh, p'⟩, hq9⟩ := not_isNone hq
          rw [hq9] at hw
          have hle := tkC_le h4 hk hq9
          dsimp only at hle
          refine top_i (y := zI ((hh : Nat) : Int)) (by rw [hq9]; rfl) ?_
          have hw : pc_S D A s.heap [(hc, .inr (1, [])), (ha, .inl (dA 1, 24, .inl g)), (h0, .inr (0, [.ref hb, .int (zI (((bs.length : Nat) : Int))), .int (zI (((p' : Nat) : Int)))])), (hb, .inl (dA 0, 400, .inl f))] H locs := hw
          obtain ⟨t_6, ht_6⟩ : ∃ q : Bool, q = (!decide (hh ≤ 4095 ∧ lastI ys + 1 + (hh : Int) ≤ 4095)) := ⟨_, rfl⟩
          refine cx_v (c1 := 0) (s1 := 0) X hw [1] [0, 2, 3] (wr := [(hc, .inr (1, [])), (h0, .inr (0, [.ref hb, .int (zI (((bs.length : Nat) : Int))), .int (zI (((p' : Nat) : Int)))])), (hb, .inl (dA 0, 400, .inl f))]) (vx_runSN (As := [.ref ha, .int (zI (((ys.length : Nat) : Int))), .int (zI (((hh : Nat) : Int)))]) (rest := []) X.fix (m_follow l hst D dA ha g ys.length hh (lastI ys) (by omega) (by omega) (lastI_rng hs) (lastI_arr hs hfa) t_6 ht_6 _) ⟨va_cnB 3 X.t (lw_meth q552) rfl rfl rfl (pc_nl18 X.N) (X.t _ q37) (by decide +kernel) (pc_rmle (by decide) (by decide)), X.t _ q551, trivial⟩ (pc_preS X hw [1] rfl rfl) rfl rfl hl.1 rfl (lv_room (Nat.le_of_ble_eq_true rfl)) dX2_decode_19 (pc_c1 (fun h => by rw [ht_6] at h; rw [ht, decP_mono (decP_ds hd hq9 (dstep_none (nd_t h))) (by omega)]; rfl))) rfl rfl rfl rfl (fun E ce q9 ux_9 H locs hq hw h1 h2 h3 => ?_) (fun u hq => pc_c0 hq) (fun u_8 H locs hq hw => ?_)
          · skip
            have hw : pc_S D A s.heap [(hc, .inr (1, [])), (h0, .inr (0, [.ref hb, .int (zI (((bs.length : Nat) : Int))), .int (zI (((p' : Nat) : Int)))])), (hb, .inl (dA 0, 400, .inl f)), (ha, .inl (dA 1, 24, .inl g))] H locs := hw
            exact hout (g, zI ((p' : Nat) : Int)) h1 h2 h3 (⟨hq.1, (fun h => by rw [ht_6] at h; rw [ht, decP_mono (decP_ds hd hq9 (dstep_none (nd_t h))) (by omega)]; rfl) hq.2⟩) hw (pc_c1 (fun h => by rw [ht_6] at h; rw [ht, decP_mono (decP_ds hd hq9 (dstep_none (nd_t h))) (by omega)]; rfl)).1 (pc_c1 (fun h => by rw [ht_6] at h; rw [ht, decP_mono (decP_ds hd hq9 (dstep_none (nd_t h))) (by omega)]; rfl)).2
          · skip
            have hw : pc_S D A s.heap [(hc, .inr (1, [])), (h0, .inr (0, [.ref hb, .int (zI (((bs.length : Nat) : Int))), .int (zI (((p' : Nat) : Int)))])), (hb, .inl (dA 0, 400, .inl f)), (ha, .inl (dA 1, 24, .inl (upd g ys.length (zI (lastI ys + 1 + (hh : Int))))))] H locs := hw
            rw [ht_6] at hq
            have hq : hh ≤ 4095 ∧ lastI ys + 1 + (hh : Int) ≤ 4095 := nd_f hq
            have e9 := nxt_int hs hh
            have hds := dstep_some hs (h := hh) hq
            rw [← e9] at hw
            have hw : pc_S D A s.heap [(hc, .inr (1, [])), (h0, .inr (0, [.ref hb, .int (zI (((bs.length : Nat) : Int))), .int (zI (((p' : Nat) : Int)))])), (hb, .inl (dA 0, 400, .inl f)), (ha, .inl (dA 1, 24, .inl (upd g ys.length (zI ((nxt ys hh : Nat) : Int)))))] H locs := hw
            refine z_iinc (lv' := [(5, .int (zI (((ys.length : Nat) : Int) + 1))), (0, .ref hc), (1, .ref h0), (2, .ref ha), (3, .int (zI (((n : Nat) : Int)))), (4, .int (zI (((k : Nat) : Int))))]) X dX2_decode_22 hl (k0 := 5) rfl (by decide) rfl (fun ls hl => ?_)
            have hl : lv_has ls 6 [(5, .int (zI (((ys.length + 1 : Nat) : Int)))), (0, .ref hc), (1, .ref h0), (2, .ref ha), (3, .int (zI (((n : Nat) : Int)))), (4, .int (zI (((k : Nat) : Int))))] := by rw [show (((ys.length + 1 : Nat) : Int) : Int) = ((ys.length : Nat) : Int) + 1 from by omega]; exact hl
            refine lv_goto (tgt := 3) X.x X.b dX2_decode_25 (by decide) ?_
            have hl9 : (ys ++ [nxt ys hh]).length = ys.length + 1 := by simp
            have hl : lv_has ls 6 [(5, .int (zI ((((ys ++ [nxt ys hh]).length : Nat) : Int)))), (0, .ref hc), (1, .ref h0), (2, .ref ha), (3, .int (zI (((n : Nat) : Int)))), (4, .int (zI (((k : Nat) : Int))))] := by rw [show ((((ys ++ [nxt ys hh]).length : Nat) : Int) : Int) = ((ys.length + 1 : Nat) : Int) from by omega]; exact hl
            exact ih3  (ys ++ [nxt ys hh]) p' (upd g ys.length (zI ((nxt ys hh : Nat) : Int))) (by rw [hl9]; exact decP_ok hd hq9 hds.1) hds.2 (ArrIs.push hfa _) (by omega) (by omega) (by omega) H locs hw ls (lv_sub hl [1, 2, 3, 4, 5, 0] rfl)
  exact B3 _ ([]) 0 g rfl Small.nil (ArrIs.nil g) (Nat.zero_le _) (Nat.zero_le _) (Nat.lt_succ_self _) H locs hw ls (lv_sub hl [1, 2, 3, 4, 5, 0] rfl)
set_option maxHeartbeats 4000000 in
/-- decode, PostingCodes$Gamma -/
theorem m_dec_1 (l : Launch) (hst : l.stackTraces = false) (D : va_G) (dA : Nat → ClassId) (hc h0 hb ha : Nat) (bs : List Bool) (k n : Nat) (f g : Nat → Int32) (hf : RowIs bs f) (h4 : bs.length ≤ 400) (hk : k ≤ 7) (hn : n ≤ 24) (t : Bool) (ht : t = (decP 1 k bs n).isNone) : px_V l yX2_decode (ws_ yX2_decode cX2_decode 6 none) (pc_rm 5 (cond t 1 0) (cond t 6 0)) D dA [.ref hc, .ref h0, .ref ha, .int (zI (((n : Nat) : Int))), .int (zI (((k : Nat) : Int)))] [(hc, .inr (2, [])), (h0, .inr (0, [.ref hb, .int (zI (((bs.length : Nat) : Int))), .int (zI 0)])), (hb, .inl (dA 0, 400, .inl f)), (ha, .inl (dA 1, 24, .inl g))] (fun u : (Nat → Int32) × Int32 => t = false ∧ ∃ ys q, decP 1 k bs n = some (ys, q) ∧ ArrIs ys u.1) (fun u : (Nat → Int32) × Int32 => [(hc, .inr (2, [])), (h0, .inr (0, [.ref hb, .int (zI (((bs.length : Nat) : Int))), .int (u.2)])), (hb, .inl (dA 0, 400, .inl f)), (ha, .inl (dA 1, 24, .inl u.1))]) (fun E (_ : (Nat → Int32) × Int32) => E = xIAE ∧ t = true) (fun u : (Nat → Int32) × Int32 => [(hc, .inr (2, [])), (h0, .inr (0, [.ref hb, .int (zI (((bs.length : Nat) : Int))), .int (u.2)])), (hb, .inl (dA 0, 400, .inl f)), (ha, .inl (dA 1, 24, .inl u.1))]) := by
  refine sx_v hst (by decide) RX2 rfl (Nat.le_of_ble_eq_true rfl) ?_
  intro pg ev s mt args below meth cd R A Q hR X exit hout hthr H locs hw ls hl
  subst hR
  have hl : lv_has ls 6 [(0, .ref hc), (1, .ref h0), (2, .ref ha), (3, .int (zI (((n : Nat) : Int)))), (4, .int (zI (((k : Nat) : Int))))] := hl
  refine z_iconst X dX2_decode_0 ?_
  refine lv_istore (lv' := [(5, .int (zI 0)), (0, .ref hc), (1, .ref h0), (2, .ref ha), (3, .int (zI (((n : Nat) : Int)))), (4, .int (zI (((k : Nat) : Int))))]) X.x X.b dX2_decode_1 hl (by decide) rfl (fun ls hl => ?_)
  have B3 : ∀ (NN : Nat) (ys : List Nat) (p : Nat) (g : Nat → Int32) (hd : decP 1 k bs ys.length = some (ys, p)) (hs : Small ys) (hfa : ArrIs ys g) (hp : p ≤ bs.length) (hyn : ys.length ≤ n) (hNN : n - ys.length < NN) (H : Heap) (locs : List Loc), pc_S D A s.heap [(hc, .inr (2, [])), (h0, .inr (0, [.ref hb, .int (zI (((bs.length : Nat) : Int))), .int (zI (((p : Nat) : Int)))])), (hb, .inl (dA 0, 400, .inl f)), (ha, .inl (dA 1, 24, .inl g))] H locs → ∀ ls : Array Slot, lv_has ls 6 [(0, .ref hc), (1, .ref h0), (2, .ref ha), (3, .int (zI (((n : Nat) : Int)))), (4, .int (zI (((k : Nat) : Int)))), (5, .int (zI (((ys.length : Nat) : Int))))] → W pg l ev (pc_rm 5 (cond t 1 0) (cond t 6 0)) s mt args below meth cd H locs 0 0 Q (F0 mt 3 ls []) := by
    intro NN
    induction NN with
    | zero => intro ys p g hd hs hfa hp hyn hNN; exact absurd hNN (Nat.not_lt_zero _)
    | succ NN ih3 =>
      intro ys p g hd hs hfa hp hyn hNN H locs hw ls hl
      refine lv_iload X.x X.b dX2_decode_3 (lv_at hl 5 rfl) ?_
      refine lv_iload_n X.x X.b dX2_decode_5 rfl (lv_at hl 3 rfl) ?_
      refine z_icmp_ge (tgt := 28) X dX2_decode_6 (by decide) (by omega) (by omega) (fun c_1 => ?_) (fun c_1 => ?_)
      · skip
        have hyn9 : ys.length = n := by omega
        rw [hyn9] at hd
        exact exit (g, zI ((p : Nat) : Int)) dX2_decode_28 ⟨by rw [ht, hd]; rfl, ys, p, hd, hfa⟩ hw (Nat.zero_le _) (Nat.zero_le _)
      · skip
        refine lv_aload_n X.x X.b dX2_decode_9 rfl (lv_at hl 2 rfl) ?_
        refine lv_iload X.x X.b dX2_decode_10 (lv_at hl 5 rfl) ?_
        refine lv_aload_n X.x X.b dX2_decode_12 rfl (lv_at hl 0 rfl) ?_
        refine lv_aload_n X.x X.b dX2_decode_13 rfl (lv_at hl 1 rfl) ?_
        refine lv_iload X.x X.b dX2_decode_14 (lv_at hl 4 rfl) ?_
        obtain ⟨t_2, ht_2⟩ : ∃ q : Bool, q = ((tkC 1 k bs p).isNone) := ⟨_, rfl⟩
        refine cx_i (c1 := 0) (s1 := 0) X hw [1, 2] [0, 3] (wr := [(hc, .inr (2, [])), (ha, .inl (dA 1, 24, .inl g))]) (vx_runU (As := [.ref h0, .int (zI (((k : Nat) : Int)))]) (rest := [.int (zI (((ys.length : Nat) : Int))), .ref ha]) X.fix (m_one_take_1 l hst D dA hc h0 hb p bs k f hf (by omega) (by omega) (by omega) t_2 ht_2 _) (va_cwA (x := (mn_ "PostingCodes$OfGaps" "take" "(LPostingCodes$Row;I)I")) (owner := "PostingCodes$OfGaps") (C := RX4) 2 X.t (lw_U q524 q526 q536 q537 q40 q538) rfl rfl rfl (pc_ndt X.N) (by decide +kernel) (pc_rmle (by decide) (by decide))) (pc_preV X hw [1, 2] rfl rfl 2 0 rfl rfl rfl) rfl rfl hl.1 rfl (lv_room (Nat.le_of_ble_eq_true rfl)) dX2_decode_16 (pc_c1 (fun h => by rw [ht_2] at h; rw [ht, decP_mono (decP_tk hd (Option.isNone_iff_eq_none.mp h)) (by omega)]; rfl))) rfl rfl rfl rfl (fun E ce q9 ux_5 H locs hq hw h1 h2 h3 => ?_) (fun r u hq => pc_c0 hq.1) (fun r_3 u_4 H locs hq hw => ?_)
        · skip
          have hw : pc_S D A s.heap [(hc, .inr (2, [])), (ha, .inl (dA 1, 24, .inl g)), (h0, .inr (0, [.ref hb, .int (zI (((bs.length : Nat) : Int))), .int (ux_5)])), (hb, .inl (dA 0, 400, .inl f))] H locs := hw
          have hw : pc_S D A s.heap [(hc, .inr (2, [])), (h0, .inr (0, [.ref hb, .int (zI (((bs.length : Nat) : Int))), .int (ux_5)])), (hb, .inl (dA 0, 400, .inl f)), (ha, .inl (dA 1, 24, .inl g))] H locs := hw.sub [0, 2, 3, 1] rfl rfl
          exact hout (g, ux_5) h1 h2 h3 (⟨hq.1, (fun h => by rw [ht_2] at h; rw [ht, decP_mono (decP_tk hd (Option.isNone_iff_eq_none.mp h)) (by omega)]; rfl) hq.2⟩) hw (pc_c1 (fun h => by rw [ht_2] at h; rw [ht, decP_mono (decP_tk hd (Option.isNone_iff_eq_none.mp h)) (by omega)]; rfl)).1 (pc_c1 (fun h => by rw [ht_2] at h; rw [ht, decP_mono (decP_tk hd (Option.isNone_iff_eq_none.mp h)) (by omega)]; rfl)).2
        · skip
          have hw : pc_S D A s.heap [(hc, .inr (2, [])), (ha, .inl (dA 1, 24, .inl g)), (h0, .inr (0, [.ref hb, .int (zI (((bs.length : Nat) : Int))), .int (zI ((((ov (tkC 1 k bs p)).2 : Nat) : Int)))])), (hb, .inl (dA 0, 400, .inl f))] H locs := hw
          obtain ⟨hq, rfl⟩ := hq
          rw [ht_2] at hq
          obtain ⟨⟨hh, p'⟩, hq9⟩ := not_isNone hq
          rw [hq9] at hw
          have hle := tkC_le h4 hk hq9
          dsimp only at hle
          refine top_i (y := zI ((hh : Nat) : Int)) (by rw [hq9]; rfl) ?_
          have hw : pc_S D A s.heap [(hc, .inr (2, [])), (ha, .inl (dA 1, 24, .inl g)), (h0, .inr (0, [.ref hb, .int (zI (((bs.length : Nat) : Int))), .int (zI (((p' : Nat) : Int)))])), (hb, .inl (dA 0, 400, .inl f))] H locs := hw
          obtain ⟨t_6, ht_6⟩ : ∃ q : Bool, q = (!decide (hh ≤ 4095 ∧ lastI ys + 1 + (hh : Int) ≤ 4095)) := ⟨_, rfl⟩
          refine cx_v (c1 := 0) (s1 := 0) X hw [1] [0, 2, 3] (wr := [(hc, .inr (2, [])), (h0, .inr (0, [.ref hb, .int (zI (((bs.length : Nat) : Int))), .int (zI (((p' : Nat) : Int)))])), (hb, .inl (dA 0, 400, .inl f))]) (vx_runSN (As := [.ref ha, .int (zI (((ys.length : Nat) : Int))), .int (zI (((hh : Nat) : Int)))]) (rest := []) X.fix (m_follow l hst D dA ha g ys.length hh (lastI ys) (by omega) (by omega) (lastI_rng hs) (lastI_arr hs hfa) t_6 ht_6 _) ⟨va_cnB 3 X.t (lw_meth q552) rfl rfl rfl (pc_nl18 X.N) (X.t _ q37) (by decide +kernel) (pc_rmle (by decide) (by decide)), X.t _ q551, trivial⟩ (pc_preS X hw [1] rfl rfl) rfl rfl hl.1 rfl (lv_room (Nat.le_of_ble_eq_true rfl)) dX2_decode_19 (pc_c1 (fun h => by rw [ht_6] at h; rw [ht, decP_mono (decP_ds hd hq9 (dstep_none (nd_t h))) (by omega)]; rfl))) rfl rfl rfl rfl (fun E ce q9 ux_9 H locs hq hw h1 h2 h3 => ?_) (fun u hq => pc_c0 hq) (fun u_8 H locs hq hw => ?_)
          · skip
            have hw : pc_S D A s.heap [(hc, .inr (2, [])), (h0, .inr (0, [.ref hb, .int (zI (((bs.length : Nat) : Int))), .int (zI (((p' : Nat) : Int)))])), (hb, .inl (dA 0, 400, .inl f)), (ha, .inl (dA 1, 24, .inl g))] H locs := hw
            exact hout (g, zI ((p' : Nat) : Int)) h1 h2 h3 (⟨hq.1, (fun h => by rw [ht_6] at h; rw [ht, decP_mono (decP_ds hd hq9 (dstep_none (nd_t h))) (by omega)]; rfl) hq.2⟩) hw (pc_c1 (fun h => by rw [ht_6] at h; rw [ht, decP_mono (decP_ds hd hq9 (dstep_none (nd_t h))) (by omega)]; rfl)).1 (pc_c1 (fun h => by rw [ht_6] at h; rw [ht, decP_mono (decP_ds hd hq9 (dstep_none (nd_t h))) (by omega)]; rfl)).2
          · skip
            have hw : pc_S D A s.heap [(hc, .inr (2, [])), (h0, .inr (0, [.ref hb, .int (zI (((bs.length : Nat) : Int))), .int (zI (((p' : Nat) : Int)))])), (hb, .inl (dA 0, 400, .inl f)), (ha, .inl (dA 1, 24, .inl (upd g ys.length (zI (lastI ys + 1 + (hh : Int))))))] H locs := hw
            rw [ht_6] at hq
            have hq : hh ≤ 4095 ∧ lastI ys + 1 + (hh : Int) ≤ 4095 := nd_f hq
            have e9 := nxt_int hs hh
            have hds := dstep_some hs (h := hh) hq
            rw [← e9] at hw
            have hw : pc_S D A s.heap [(hc, .inr (2, [])), (h0, .inr (0, [.ref hb, .int (zI (((bs.length : Nat) : Int))), .int (zI (((p' : Nat) : Int)))])), (hb, .inl (dA 0, 400, .inl f)), (ha, .inl (dA 1, 24, .inl (upd g ys.length (zI ((nxt ys hh : Nat) : Int)))))] H locs := hw
            refine z_iinc (lv' := [(5, .int (zI (((ys.length : Nat) : Int) + 1))), (0, .ref hc), (1, .ref h0), (2, .ref ha), (3, .int (zI (((n : Nat) : Int)))), (4, .int (zI (((k : Nat) : Int))))]) X dX2_decode_22 hl (k0 := 5) rfl (by decide) rfl (fun ls hl => ?_)
            have hl : lv_has ls 6 [(5, .int (zI (((ys.length + 1 : Nat) : Int)))), (0, .ref hc), (1, .ref h0), (2, .ref ha), (3, .int (zI (((n : Nat) : Int)))), (4, .int (zI (((k : Nat) : Int))))] := by rw [show (((ys.length + 1 : Nat) : Int) : Int) = ((ys.length : Nat) : Int) + 1 from by omega]; exact hl
            refine lv_goto (tgt := 3) X.x X.b dX2_decode_25 (by decide) ?_
            have hl9 : (ys ++ [nxt ys hh]).length = ys.length + 1 := by simp
            have hl : lv_has ls 6 [(5, .int (zI ((((ys ++ [nxt ys hh]).length : Nat) : Int)))), (0, .ref hc), (1, .ref h0), (2, .ref ha), (3, .int (zI (((n : Nat) : Int)))), (4, .int (zI (((k : Nat) : Int))))] := by rw [show ((((ys ++ [nxt ys hh]).length : Nat) : Int) : Int) = ((ys.length + 1 : Nat) : Int) from by omega]; exact hl
            exact ih3  (ys ++ [nxt ys hh]) p' (upd g ys.length (zI ((nxt ys hh : Nat) : Int))) (by rw [hl9]; exact decP_ok hd hq9 hds.1) hds.2 (ArrIs.push hfa _) (by omega) (by omega) (by omega) H locs hw ls (lv_sub hl [1, 2, 3, 4, 5, 0] rfl)
  exact B3 _ ([]) 0 g rfl Small.nil (ArrIs.nil g) (Nat.zero_le _) (Nat.zero_le _) (Nat.lt_succ_self _) H locs hw ls (lv_sub hl [1, 2, 3, 4, 5, 0] rfl)
set_option maxHeartbeats 4000000 in
/-- decode, PostingCodes$Rice -/
theorem m_dec_2 (l : Launch) (hst : l.stackTraces = false) (D : va_G) (dA : Nat → ClassId) (hc h0 hb ha : Nat) (bs : List Bool) (k n : Nat) (f g : Nat → Int32) (hf : RowIs bs f) (h4 : bs.length ≤ 400) (hk : k ≤ 7) (hn : n ≤ 24) (t : Bool) (ht : t = (decP 2 k bs n).isNone) : px_V l yX2_decode (ws_ yX2_decode cX2_decode 6 none) (pc_rm 5 (cond t 1 0) (cond t 6 0)) D dA [.ref hc, .ref h0, .ref ha, .int (zI (((n : Nat) : Int))), .int (zI (((k : Nat) : Int)))] [(hc, .inr (3, [])), (h0, .inr (0, [.ref hb, .int (zI (((bs.length : Nat) : Int))), .int (zI 0)])), (hb, .inl (dA 0, 400, .inl f)), (ha, .inl (dA 1, 24, .inl g))] (fun u : (Nat → Int32) × Int32 => t = false ∧ ∃ ys q, decP 2 k bs n = some (ys, q) ∧ ArrIs ys u.1) (fun u : (Nat → Int32) × Int32 => [(hc, .inr (3, [])), (h0, .inr (0, [.ref hb, .int (zI (((bs.length : Nat) : Int))), .int (u.2)])), (hb, .inl (dA 0, 400, .inl f)), (ha, .inl (dA 1, 24, .inl u.1))]) (fun E (_ : (Nat → Int32) × Int32) => E = xIAE ∧ t = true) (fun u : (Nat → Int32) × Int32 => [(hc, .inr (3, [])), (h0, .inr (0, [.ref hb, .int (zI (((bs.length : Nat) : Int))), .int (u.2)])), (hb, .inl (dA 0, 400, .inl f)), (ha, .inl (dA 1, 24, .inl u.1))]) := by
  refine sx_v hst (by decide) RX2 rfl (Nat.le_of_ble_eq_true rfl) ?_
  intro pg ev s mt args below meth cd R A Q hR X exit hout hthr H locs hw ls hl
  subst hR
  have hl : lv_has ls 6 [(0, .ref hc), (1, .ref h0), (2, .ref ha), (3, .int (zI (((n : Nat) : Int)))), (4, .int (zI (((k : Nat) : Int))))] := hl
  refine z_iconst X dX2_decode_0 ?_
  refine lv_istore (lv' := [(5, .int (zI 0)), (0, .ref hc), (1, .ref h0), (2, .ref ha), (3, .int (zI (((n : Nat) : Int)))), (4, .int (zI (((k : Nat) : Int))))]) X.x X.b dX2_decode_1 hl (by decide) rfl (fun ls hl => ?_)
  have B3 : ∀ (NN : Nat) (ys : List Nat) (p : Nat) (g : Nat → Int32) (hd : decP 2 k bs ys.length = some (ys, p)) (hs : Small ys) (hfa : ArrIs ys g) (hp : p ≤ bs.length) (hyn : ys.length ≤ n) (hNN : n - ys.length < NN) (H : Heap) (locs : List Loc), pc_S D A s.heap [(hc, .inr (3, [])), (h0, .inr (0, [.ref hb, .int (zI (((bs.length : Nat) : Int))), .int (zI (((p : Nat) : Int)))])), (hb, .inl (dA 0, 400, .inl f)), (ha, .inl (dA 1, 24, .inl g))] H locs → ∀ ls : Array Slot, lv_has ls 6 [(0, .ref hc), (1, .ref h0), (2, .ref ha), (3, .int (zI (((n : Nat) : Int)))), (4, .int (zI (((k : Nat) : Int)))), (5, .int (zI (((ys.length : Nat) : Int))))] → W pg l ev (pc_rm 5 (cond t 1 0) (cond t 6 0)) s mt args below meth cd H locs 0 0 Q (F0 mt 3 ls []) := by
    intro NN
    induction NN with
    | zero => intro ys p g hd hs hfa hp hyn hNN; exact absurd hNN (Nat.not_lt_zero _)
    | succ NN ih3 =>
      intro ys p g hd hs hfa hp hyn hNN H locs hw ls hl
      refine lv_iload X.x X.b dX2_decode_3 (lv_at hl 5 rfl) ?_
      refine lv_iload_n X.x X.b dX2_decode_5 rfl (lv_at hl 3 rfl) ?_
      refine z_icmp_ge (tgt := 28) X dX2_decode_6 (by decide) (by omega) (by omega) (fun c_1 => ?_) (fun c_1 => ?_)
      · skip
        have hyn9 : ys.length = n := by omega
        rw [hyn9] at hd
        exact exit (g, zI ((p : Nat) : Int)) dX2_decode_28 ⟨by rw [ht, hd]; rfl, ys, p, hd, hfa⟩ hw (Nat.zero_le _) (Nat.zero_le _)
      · skip
        refine lv_aload_n X.x X.b dX2_decode_9 rfl (lv_at hl 2 rfl) ?_
        refine lv_iload X.x X.b dX2_decode_10 (lv_at hl 5 rfl) ?_
        refine lv_aload_n X.x X.b dX2_decode_12 rfl (lv_at hl 0 rfl) ?_
        refine lv_aload_n X.x X.b dX2_decode_13 rfl (lv_at hl 1 rfl) ?_
        refine lv_iload X.x X.b dX2_decode_14 (lv_at hl 4 rfl) ?_
        obtain ⟨t_2, ht_2⟩ : ∃ q : Bool, q = ((tkC 2 k bs p).isNone) := ⟨_, rfl⟩
        refine cx_i (c1 := 0) (s1 := 0) X hw [1, 2] [0, 3] (wr := [(hc, .inr (3, [])), (ha, .inl (dA 1, 24, .inl g))]) (vx_runU (As := [.ref h0, .int (zI (((k : Nat) : Int)))]) (rest := [.int (zI (((ys.length : Nat) : Int))), .ref ha]) X.fix (m_one_take_2 l hst D dA hc h0 hb p bs k f hf (by omega) (by omega) (by omega) t_2 ht_2 _) (va_cwA (x := (mn_ "PostingCodes$OfGaps" "take" "(LPostingCodes$Row;I)I")) (owner := "PostingCodes$OfGaps") (C := RX5) 2 X.t (lw_U q524 q526 q545 q546 q41 q547) rfl rfl rfl (pc_ndt X.N) (by decide +kernel) (pc_rmle (by decide) (by decide))) (pc_preV X hw [1, 2] rfl rfl 3 0 rfl rfl rfl) rfl rfl hl.1 rfl (lv_room (Nat.le_of_ble_eq_true rfl)) dX2_decode_16 (pc_c1 (fun h => by rw [ht_2] at h; rw [ht, decP_mono (decP_tk hd (Option.isNone_iff_eq_none.mp h)) (by omega)]; rfl))) rfl rfl rfl rfl (fun E ce q9 ux_5 H locs hq hw h1 h2 h3 => ?_) (fun r u hq => pc_c0 hq.1) (fun r_3 u_4 H locs hq hw => ?_)
        · skip
          have hw : pc_S D A s.heap [(hc, .inr (3, [])), (ha, .inl (dA 1, 24, .inl g)), (h0, .inr (0, [.ref hb, .int (zI (((bs.length : Nat) : Int))), .int (ux_5)])), (hb, .inl (dA 0, 400, .inl f))] H locs := hw
          have hw : pc_S D A s.heap [(hc, .inr (3, [])), (h0, .inr (0, [.ref hb, .int (zI (((bs.length : Nat) : Int))), .int (ux_5)])), (hb, .inl (dA 0, 400, .inl f)), (ha, .inl (dA 1, 24, .inl g))] H locs := hw.sub [0, 2, 3, 1] rfl rfl
          exact hout (g, ux_5) h1 h2 h3 (⟨hq.1, (fun h => by rw [ht_2] at h; rw [ht, decP_mono (decP_tk hd (Option.isNone_iff_eq_none.mp h)) (by omega)]; rfl) hq.2⟩) hw (pc_c1 (fun h => by rw [ht_2] at h; rw [ht, decP_mono (decP_tk hd (Option.isNone_iff_eq_none.mp h)) (by omega)]; rfl)).1 (pc_c1 (fun h => by rw [ht_2] at h; rw [ht, decP_mono (decP_tk hd (Option.isNone_iff_eq_none.mp h)) (by omega)]; rfl)).2
        · skip
          have hw : pc_S D A s.heap [(hc, .inr (3, [])), (ha, .inl (dA 1, 24, .inl g)), (h0, .inr (0, [.ref hb, .int (zI (((bs.length : Nat) : Int))), .int (zI ((((ov (tkC 2 k bs p)).2 : Nat) : Int)))])), (hb, .inl (dA 0, 400, .inl f))] H locs := hw
          obtain ⟨hq, rfl⟩ := hq
          rw [ht_2] at hq
          obtain ⟨⟨hh, p'⟩, hq9⟩ := not_isNone hq
          rw [hq9] at hw
          have hle := tkC_le h4 hk hq9
          dsimp only at hle
          refine top_i (y := zI ((hh : Nat) : Int)) (by rw [hq9]; rfl) ?_
          have hw : pc_S D A s.heap [(hc, .inr (3, [])), (ha, .inl (dA 1, 24, .inl g)), (h0, .inr (0, [.ref hb, .int (zI (((bs.length : Nat) : Int))), .int (zI (((p' : Nat) : Int)))])), (hb, .inl (dA 0, 400, .inl f))] H locs := hw
          obtain ⟨t_6, ht_6⟩ : ∃ q : Bool, q = (!decide (hh ≤ 4095 ∧ lastI ys + 1 + (hh : Int) ≤ 4095)) := ⟨_, rfl⟩
          refine cx_v (c1 := 0) (s1 := 0) X hw [1] [0, 2, 3] (wr := [(hc, .inr (3, [])), (h0, .inr (0, [.ref hb, .int (zI (((bs.length : Nat) : Int))), .int (zI (((p' : Nat) : Int)))])), (hb, .inl (dA 0, 400, .inl f))]) (vx_runSN (As := [.ref ha, .int (zI (((ys.length : Nat) : Int))), .int (zI (((hh : Nat) : Int)))]) (rest := []) X.fix (m_follow l hst D dA ha g ys.length hh (lastI ys) (by omega) (by omega) (lastI_rng hs) (lastI_arr hs hfa) t_6 ht_6 _) ⟨va_cnB 3 X.t (lw_meth q552) rfl rfl rfl (pc_nl18 X.N) (X.t _ q37) (by decide +kernel) (pc_rmle (by decide) (by decide)), X.t _ q551, trivial⟩ (pc_preS X hw [1] rfl rfl) rfl rfl hl.1 rfl (lv_room (Nat.le_of_ble_eq_true rfl)) dX2_decode_19 (pc_c1 (fun h => by rw [ht_6] at h; rw [ht, decP_mono (decP_ds hd hq9 (dstep_none (nd_t h))) (by omega)]; rfl))) rfl rfl rfl rfl (fun E ce q9 ux_9 H locs hq hw h1 h2 h3 => ?_) (fun u hq => pc_c0 hq) (fun u_8 H locs hq hw => ?_)
          · skip
            have hw : pc_S D A s.heap [(hc, .inr (3, [])), (h0, .inr (0, [.ref hb, .int (zI (((bs.length : Nat) : Int))), .int (zI (((p' : Nat) : Int)))])), (hb, .inl (dA 0, 400, .inl f)), (ha, .inl (dA 1, 24, .inl g))] H locs := hw
            exact hout (g, zI ((p' : Nat) : Int)) h1 h2 h3 (⟨hq.1, (fun h => by rw [ht_6] at h; rw [ht, decP_mono (decP_ds hd hq9 (dstep_none (nd_t h))) (by omega)]; rfl) hq.2⟩) hw (pc_c1 (fun h => by rw [ht_6] at h; rw [ht, decP_mono (decP_ds hd hq9 (dstep_none (nd_t h))) (by omega)]; rfl)).1 (pc_c1 (fun h => by rw [ht_6] at h; rw [ht, decP_mono (decP_ds hd hq9 (dstep_none (nd_t h))) (by omega)]; rfl)).2
          · skip
            have hw : pc_S D A s.heap [(hc, .inr (3, [])), (h0, .inr (0, [.ref hb, .int (zI (((bs.length : Nat) : Int))), .int (zI (((p' : Nat) : Int)))])), (hb, .inl (dA 0, 400, .inl f)), (ha, .inl (dA 1, 24, .inl (upd g ys.length (zI (lastI ys + 1 + (hh : Int))))))] H locs := hw
            rw [ht_6] at hq
            have hq : hh ≤ 4095 ∧ lastI ys + 1 + (hh : Int) ≤ 4095 := nd_f hq
            have e9 := nxt_int hs hh
            have hds := dstep_some hs (h := hh) hq
            rw [← e9] at hw
            have hw : pc_S D A s.heap [(hc, .inr (3, [])), (h0, .inr (0, [.ref hb, .int (zI (((bs.length : Nat) : Int))), .int (zI (((p' : Nat) : Int)))])), (hb, .inl (dA 0, 400, .inl f)), (ha, .inl (dA 1, 24, .inl (upd g ys.length (zI ((nxt ys hh : Nat) : Int)))))] H locs := hw
            refine z_iinc (lv' := [(5, .int (zI (((ys.length : Nat) : Int) + 1))), (0, .ref hc), (1, .ref h0), (2, .ref ha), (3, .int (zI (((n : Nat) : Int)))), (4, .int (zI (((k : Nat) : Int))))]) X dX2_decode_22 hl (k0 := 5) rfl (by decide) rfl (fun ls hl => ?_)
            have hl : lv_has ls 6 [(5, .int (zI (((ys.length + 1 : Nat) : Int)))), (0, .ref hc), (1, .ref h0), (2, .ref ha), (3, .int (zI (((n : Nat) : Int)))), (4, .int (zI (((k : Nat) : Int))))] := by rw [show (((ys.length + 1 : Nat) : Int) : Int) = ((ys.length : Nat) : Int) + 1 from by omega]; exact hl
            refine lv_goto (tgt := 3) X.x X.b dX2_decode_25 (by decide) ?_
            have hl9 : (ys ++ [nxt ys hh]).length = ys.length + 1 := by simp
            have hl : lv_has ls 6 [(5, .int (zI ((((ys ++ [nxt ys hh]).length : Nat) : Int)))), (0, .ref hc), (1, .ref h0), (2, .ref ha), (3, .int (zI (((n : Nat) : Int)))), (4, .int (zI (((k : Nat) : Int))))] := by rw [show ((((ys ++ [nxt ys hh]).length : Nat) : Int) : Int) = ((ys.length + 1 : Nat) : Int) from by omega]; exact hl
            exact ih3  (ys ++ [nxt ys hh]) p' (upd g ys.length (zI ((nxt ys hh : Nat) : Int))) (by rw [hl9]; exact decP_ok hd hq9 hds.1) hds.2 (ArrIs.push hfa _) (by omega) (by omega) (by omega) H locs hw ls (lv_sub hl [1, 2, 3, 4, 5, 0] rfl)
  exact B3 _ ([]) 0 g rfl Small.nil (ArrIs.nil g) (Nat.zero_le _) (Nat.zero_le _) (Nat.lt_succ_self _) H locs hw ls (lv_sub hl [1, 2, 3, 4, 5, 0] rfl)
set_option maxHeartbeats 4000000 in
/-- Frames.encode -/
theorem m_enc_3 (l : Launch) (hst : l.stackTraces = false) (D : va_G) (dA : Nat → ClassId) (hc h0 hb ha : Nat) (ta : Int32) (xs : List Nat) (k : Nat) (f g : Nat → Int32) (hv : Valid xs) (hg : ArrIs xs g) : pc_V l yX6_encode cX6_encode 10 (pc_rm 3 0 0) D dA [.ref hc, .ref h0, .ref ha, .int (zI (((xs.length : Nat) : Int))), .int (zI ((k : Nat) : Int))] [(hc, .inr (4, [])), (h0, .inr (0, [.ref hb, .int (zI 0), .int (ta)])), (hb, .inl (dA 0, 400, .inl f)), (ha, .inl (dA 1, 24, .inl g))] (fun f' : Nat → Int32 => RowIs (encF xs (nbF xs.length)) f') (fun f' => [(hc, .inr (4, [])), (h0, .inr (0, [.ref hb, .int (zI ((((encF xs (nbF xs.length)).length : Nat) : Int))), .int (ta)])), (hb, .inl (dA 0, 400, .inl f')), (ha, .inl (dA 1, 24, .inl g))]) := by
  refine st_v hst (by decide) RX6 rfl (Nat.le_of_ble_eq_true rfl) ?_
  intro pg ev s mt args below meth cd R A Q hR X hin exit H locs hw ls hl
  subst hR
  have hl : lv_has ls 10 [(0, .ref hc), (1, .ref h0), (2, .ref ha), (3, .int (zI (((xs.length : Nat) : Int)))), (4, .int (zI ((k : Nat) : Int)))] := hl
  have hv1 := hv.1
  refine z_iconst X dX6_encode_0 ?_
  refine lv_istore (lv' := [(5, .int (zI 0)), (0, .ref hc), (1, .ref h0), (2, .ref ha), (3, .int (zI (((xs.length : Nat) : Int)))), (4, .int (zI ((k : Nat) : Int)))]) X.x X.b dX6_encode_1 hl (by decide) rfl (fun ls hl => ?_)
  have B3 : ∀ (NN : Nat) (b : Nat) (f : Nat → Int32) (hbn : 8 * b ≤ xs.length + 7) (hf : RowIs (encF xs b) f) (hNN : xs.length + 8 - 8 * b < NN) (H : Heap) (locs : List Loc), pc_S D A s.heap [(hc, .inr (4, [])), (h0, .inr (0, [.ref hb, .int (zI ((((encF xs b).length : Nat) : Int))), .int (ta)])), (hb, .inl (dA 0, 400, .inl f)), (ha, .inl (dA 1, 24, .inl g))] H locs → ∀ ls : Array Slot, lv_has ls 10 [(0, .ref hc), (1, .ref h0), (2, .ref ha), (3, .int (zI (((xs.length : Nat) : Int)))), (5, .int (zI (((8 * b : Nat) : Int))))] → W pg l ev (pc_rm 3 0 0) s mt args below meth cd H locs 0 0 Q (F0 mt 3 ls []) := by
    intro NN
    induction NN with
    | zero => intro b f hbn hf hNN; exact absurd hNN (Nat.not_lt_zero _)
    | succ NN ih3 =>
      intro b f hbn hf hNN H locs hw ls hl
      have hln := encF_len hv b hbn
      refine lv_iload X.x X.b dX6_encode_3 (lv_at hl 4 rfl) ?_
      refine lv_iload_n X.x X.b dX6_encode_5 rfl (lv_at hl 3 rfl) ?_
      refine z_icmp_ge (tgt := 110) X dX6_encode_6 (by decide) (by omega) (by omega) (fun c_1 => ?_) (fun c_1 => ?_)
      · skip
        have hb9 : b = nbF xs.length := by unfold nbF; omega
        rw [hb9] at hw hf
        exact exit f dX6_encode_110 hf hw (Nat.zero_le _) (Nat.zero_le _)
      · skip
        refine lv_iload_n X.x X.b dX6_encode_9 rfl (lv_at hl 3 rfl) ?_
        refine lv_iload X.x X.b dX6_encode_10 (lv_at hl 4 rfl) ?_
        refine z_bipush X dX6_encode_12 (by decide) ?_
        refine z_iadd X dX6_encode_14 ?_
        refine top_i (y := zI (((8 * b) + 8 : Nat) : Int)) (congrArg zI (by omega)) ?_
        refine va_mmin X.x X.b (X.ml.trans hl.1.symm) X.o (X.t _ q400) (X.t _ q401) (X.t _ q55) (X.t _ q402) (Nat.le_of_ble_eq_true rfl) (Nat.le_of_ble_eq_true rfl) (Nat.zero_le _) (Nat.zero_le _) dX6_encode_15 ?_
        have hc8 : cF xs.length b ≤ 8 ∧ 8 * b + cF xs.length b ≤ xs.length ∧ 0 < cF xs.length b ∧ min xs.length (8 * b + 8) = 8 * b + cF xs.length b := by unfold cF; omega
        refine top_i (y := zI ((8 * b + cF xs.length b : Nat) : Int)) (by rw [← hc8.2.2.2]; exact pc_min (by omega) (by omega)) ?_
        refine lv_istore (lv' := [(6, .int (zI (((8 * b + cF xs.length b : Nat) : Int)))), (0, .ref hc), (1, .ref h0), (2, .ref ha), (3, .int (zI (((xs.length : Nat) : Int)))), (5, .int (zI (((8 * b : Nat) : Int))))]) X.x X.b dX6_encode_18 hl (by decide) rfl (fun ls hl => ?_)
        refine z_iconst X dX6_encode_20 ?_
        refine lv_istore (lv' := [(7, .int (zI 0)), (6, .int (zI (((8 * b + cF xs.length b : Nat) : Int)))), (0, .ref hc), (1, .ref h0), (2, .ref ha), (3, .int (zI (((xs.length : Nat) : Int)))), (5, .int (zI (((8 * b : Nat) : Int))))]) X.x X.b dX6_encode_21 hl (by decide) rfl (fun ls hl => ?_)
        refine z_iconst X dX6_encode_23 ?_
        refine lv_istore (lv' := [(8, .int (zI 0)), (7, .int (zI 0)), (6, .int (zI (((8 * b + cF xs.length b : Nat) : Int)))), (0, .ref hc), (1, .ref h0), (2, .ref ha), (3, .int (zI (((xs.length : Nat) : Int)))), (5, .int (zI (((8 * b : Nat) : Int))))]) X.x X.b dX6_encode_24 hl (by decide) rfl (fun ls hl => ?_)
        refine lv_iload X.x X.b dX6_encode_26 (lv_at hl 7 rfl) ?_
        refine lv_istore (lv' := [(9, .int (zI (((8 * b : Nat) : Int)))), (8, .int (zI 0)), (7, .int (zI 0)), (6, .int (zI (((8 * b + cF xs.length b : Nat) : Int)))), (0, .ref hc), (1, .ref h0), (2, .ref ha), (3, .int (zI (((xs.length : Nat) : Int)))), (5, .int (zI (((8 * b : Nat) : Int))))]) X.x X.b dX6_encode_28 hl (by decide) rfl (fun ls hl => ?_)
        have B30 : ∀ (NN : Nat) (j : Nat) (hj : j ≤ cF xs.length b) (hNN : cF xs.length b - j < NN) (H : Heap) (locs : List Loc), pc_S D A s.heap [(hc, .inr (4, [])), (h0, .inr (0, [.ref hb, .int (zI ((((encF xs b).length : Nat) : Int))), .int (ta)])), (hb, .inl (dA 0, 400, .inl f)), (ha, .inl (dA 1, 24, .inl g))] H locs → ∀ ls : Array Slot, lv_has ls 10 [(0, .ref hc), (1, .ref h0), (2, .ref ha), (3, .int (zI (((xs.length : Nat) : Int)))), (5, .int (zI (((8 * b : Nat) : Int)))), (6, .int (zI (((8 * b + cF xs.length b : Nat) : Int)))), (7, .int (zI (((orF xs (8 * b) j : Nat) : Int)))), (8, .int (zI 0)), (9, .int (zI (((8 * b + j : Nat) : Int))))] → W pg l ev (pc_rm 3 0 0) s mt args below meth cd H locs 0 0 Q (F0 mt 30 ls []) := by
          intro NN
          induction NN with
          | zero => intro j hj hNN; exact absurd hNN (Nat.not_lt_zero _)
          | succ NN ih30 =>
            intro j hj hNN H locs hw ls hl
            have hor := orF_lt hv (s := 8 * b) j (by omega)
            refine lv_iload X.x X.b dX6_encode_30 (lv_at hl 8 rfl) ?_
            refine lv_iload X.x X.b dX6_encode_32 (lv_at hl 5 rfl) ?_
            refine z_icmp_ge (tgt := 54) X dX6_encode_34 (by decide) (by omega) (by omega) (fun c_2 => ?_) (fun c_2 => ?_)
            · skip
              have hj9 : j = cF xs.length b := by omega
              rw [hj9] at hl hor
              have B54 : ∀ (NN : Nat) (L : Nat) (hL : L ≤ wF xs b) (hNN : 40 - L < NN) (H : Heap) (locs : List Loc), pc_S D A s.heap [(hc, .inr (4, [])), (h0, .inr (0, [.ref hb, .int (zI ((((encF xs b).length : Nat) : Int))), .int (ta)])), (hb, .inl (dA 0, 400, .inl f)), (ha, .inl (dA 1, 24, .inl g))] H locs → ∀ ls : Array Slot, lv_has ls 10 [(0, .ref hc), (1, .ref h0), (2, .ref ha), (3, .int (zI (((xs.length : Nat) : Int)))), (5, .int (zI (((8 * b : Nat) : Int)))), (6, .int (zI (((8 * b + cF xs.length b : Nat) : Int)))), (7, .int (zI (((orF xs (8 * b) (cF xs.length b) : Nat) : Int)))), (8, .int (zI (((L : Nat) : Int))))] → W pg l ev (pc_rm 3 0 0) s mt args below meth cd H locs 0 0 Q (F0 mt 54 ls []) := by
                intro NN
                induction NN with
                | zero => intro L hL hNN; exact absurd hNN (Nat.not_lt_zero _)
                | succ NN ih54 =>
                  intro L hL hNN H locs hw ls hl
                  have hw12 := wF_le hv b (by omega)
                  have hdv : orF xs (8 * b) (cF xs.length b) / 2 ^ L ≤ orF xs (8 * b) (cF xs.length b) := Nat.div_le_self _ _
                  refine lv_iload X.x X.b dX6_encode_54 (lv_at hl 6 rfl) ?_
                  refine lv_iload X.x X.b dX6_encode_56 (lv_at hl 7 rfl) ?_
                  refine lv_ishr X.x X.b dX6_encode_58 ?_
                  refine top_i (y := zI (((orF xs (8 * b) (cF xs.length b)) / 2 ^ L : Nat) : Int)) (zI_shr (n := (orF xs (8 * b) (cF xs.length b))) (by omega) (k := L) (by omega)) ?_
                  obtain ⟨q_3, hq_3⟩ : ∃ q : Nat, q = (orF xs (8 * b) (cF xs.length b)) / 2 ^ L := ⟨_, rfl⟩
                  refine top_i (y := zI ((q_3 : Nat) : Int)) (by rw [hq_3]) ?_
                  rw [← hq_3] at hdv
                  refine z_if_le (tgt := 68) X dX6_encode_59 (by decide) (by omega) (fun c_4 => ?_) (fun c_4 => ?_)
                  · skip
                    have hL9 : L = wF xs b := by
                      have : wF xs b ≤ L := bl_end (by rw [← hq_3]; omega)
                      omega
                    rw [hL9] at hl
                    refine lv_aload_n X.x X.b dX6_encode_68 rfl (lv_at hl 1 rfl) ?_
                    refine lv_iload X.x X.b dX6_encode_69 (lv_at hl 7 rfl) ?_
                    refine z_iconst X dX6_encode_71 ?_
                    refine cv_v (c1 := 0) (s1 := 0) X hw [1, 2] [0, 3] (wr := [(hc, .inr (4, [])), (ha, .inl (dA 1, 24, .inl g))]) (va_runV (As := [.int (zI (((wF xs b : Nat) : Int))), .int (zI 4)]) (rest := []) X.fix (m_Row_put l hst D dA h0 hb (ta) (encF xs b) (zI ((wF xs b : Nat) : Int)) 4 f hf (by first | omega | (simp only [List.length_append, pb_len, List.length_replicate]; omega)) _) (cwV 2 X.t (lw_V q404 q383 q384 q46 q385) rfl rfl rfl (by decide +kernel) (pc_rmle (by decide) (by decide))) (pc_preV X hw [1, 2] rfl rfl 0 1 rfl rfl rfl) rfl rfl hl.1 rfl (lv_room (Nat.le_of_ble_eq_true rfl)) dX6_encode_72 ⟨Nat.le_of_ble_eq_true rfl, Nat.le_of_ble_eq_true rfl⟩) rfl rfl rfl rfl (fun _ _ => pc_c00) (fun u_6 H locs hq hw => ?_)
                    have hw : pc_S D A s.heap [(hc, .inr (4, [])), (ha, .inl (dA 1, 24, .inl g)), (h0, .inr (0, [.ref hb, .int (zI (((((encF xs b) ++ pb (zI ((wF xs b : Nat) : Int)) 4).length : Nat) : Int))), .int (ta)])), (hb, .inl (dA 0, 400, .inl u_6))] H locs := hw
                    have hu_6 := hq
                    refine lv_iload X.x X.b dX6_encode_75 (lv_at hl 4 rfl) ?_
                    refine lv_istore (lv' := [(9, .int (zI (((8 * b : Nat) : Int)))), (0, .ref hc), (1, .ref h0), (2, .ref ha), (3, .int (zI (((xs.length : Nat) : Int)))), (5, .int (zI (((8 * b : Nat) : Int)))), (6, .int (zI (((8 * b + cF xs.length b : Nat) : Int)))), (7, .int (zI (((orF xs (8 * b) (cF xs.length b) : Nat) : Int)))), (8, .int (zI (((wF xs b : Nat) : Int))))]) X.x X.b dX6_encode_77 hl (by decide) rfl (fun ls hl => ?_)
                    have B79 : ∀ (NN : Nat) (j : Nat) (f : Nat → Int32) (hj : j ≤ cF xs.length b) (hf : RowIs (encF xs b ++ pb (zI ((wF xs b : Nat) : Int)) 4 ++ bodyF xs b (wF xs b) j) f) (hNN : cF xs.length b - j < NN) (H : Heap) (locs : List Loc), pc_S D A s.heap [(hc, .inr (4, [])), (h0, .inr (0, [.ref hb, .int (zI ((((encF xs b ++ pb (zI ((wF xs b : Nat) : Int)) 4 ++ bodyF xs b (wF xs b) j).length : Nat) : Int))), .int (ta)])), (hb, .inl (dA 0, 400, .inl f)), (ha, .inl (dA 1, 24, .inl g))] H locs → ∀ ls : Array Slot, lv_has ls 10 [(0, .ref hc), (1, .ref h0), (2, .ref ha), (3, .int (zI (((xs.length : Nat) : Int)))), (5, .int (zI (((8 * b : Nat) : Int)))), (6, .int (zI (((8 * b + cF xs.length b : Nat) : Int)))), (8, .int (zI (((wF xs b : Nat) : Int)))), (9, .int (zI (((8 * b + j : Nat) : Int))))] → W pg l ev (pc_rm 3 0 0) s mt args below meth cd H locs 0 0 Q (F0 mt 79 ls []) := by
                      intro NN
                      induction NN with
                      | zero => intro j f hj hf hNN; exact absurd hNN (Nat.not_lt_zero _)
                      | succ NN ih79 =>
                        intro j f hj hf hNN H locs hw ls hl
                        have hbl : (bodyF xs b (wF xs b) j).length ≤ 96 := by
                          rw [bodyF_len]
                          have := Nat.mul_le_mul (show j ≤ 8 by omega) hw12
                          omega
                        refine lv_iload X.x X.b dX6_encode_79 (lv_at hl 7 rfl) ?_
                        refine lv_iload X.x X.b dX6_encode_81 (lv_at hl 5 rfl) ?_
                        refine z_icmp_ge (tgt := 104) X dX6_encode_83 (by decide) (by omega) (by omega) (fun c_7 => ?_) (fun c_7 => ?_)
                        · skip
                          have e9 : encF xs b ++ pb (zI ((wF xs b : Nat) : Int)) 4 ++ bodyF xs b (wF xs b) j = encF xs (b + 1) := by
                            rw [show j = cF xs.length b from by omega, encF_succ, List.append_assoc]; rfl
                          rw [e9] at hw hf
                          refine z_iinc (lv' := [(5, .int (zI (((8 * b : Nat) : Int) + 8))), (0, .ref hc), (1, .ref h0), (2, .ref ha), (3, .int (zI (((xs.length : Nat) : Int)))), (6, .int (zI (((8 * b + cF xs.length b : Nat) : Int)))), (8, .int (zI (((wF xs b : Nat) : Int)))), (9, .int (zI (((8 * b + j : Nat) : Int))))]) X dX6_encode_104 hl (k0 := 4) rfl (by decide) rfl (fun ls hl => ?_)
                          have hl : lv_has ls 10 [(5, .int (zI (((8 * (b + 1) : Nat) : Int)))), (0, .ref hc), (1, .ref h0), (2, .ref ha), (3, .int (zI (((xs.length : Nat) : Int)))), (6, .int (zI (((8 * b + cF xs.length b : Nat) : Int)))), (8, .int (zI (((wF xs b : Nat) : Int)))), (9, .int (zI (((8 * b + j : Nat) : Int))))] := by rw [show (((8 * (b + 1) : Nat) : Int) : Int) = ((8 * b : Nat) : Int) + 8 from by omega]; exact hl
                          refine lv_goto (tgt := 3) X.x X.b dX6_encode_107 (by decide) ?_
                          exact ih3  (b + 1) f (by omega) hf (by omega) H locs hw ls (lv_sub hl [1, 2, 3, 4, 0] rfl)
                        · skip
                          refine lv_aload_n X.x X.b dX6_encode_86 rfl (lv_at hl 1 rfl) ?_
                          refine lv_aload_n X.x X.b dX6_encode_87 rfl (lv_at hl 2 rfl) ?_
                          refine lv_iload X.x X.b dX6_encode_88 (lv_at hl 7 rfl) ?_
                          refine cv_i (c1 := 0) (s1 := 0) X hw [3] [0, 1, 2] (wr := [(hc, .inr (4, [])), (h0, .inr (0, [.ref hb, .int (zI ((((encF xs b ++ pb (zI ((wF xs b : Nat) : Int)) 4 ++ bodyF xs b (wF xs b) j).length : Nat) : Int))), .int (ta)])), (hb, .inl (dA 0, 400, .inl f))]) (va_runSN (As := [.ref ha, .int (zI (((8 * b + j : Nat) : Int)))]) (rest := [.ref h0]) X.fix (m_behind l hst D dA ha xs g (8 * b + j) hg hv (by omega) _) ⟨va_cnB 2 X.t (lw_meth q375) rfl rfl rfl (pc_nl14 X.N) (X.t _ q37) (by decide +kernel) (pc_rmle (by decide) (by decide)), X.t _ q374, trivial⟩ (pc_preS X hw [3] rfl rfl) rfl rfl hl.1 rfl (lv_room (Nat.le_of_ble_eq_true rfl)) dX6_encode_90 ⟨Nat.le_of_ble_eq_true rfl, Nat.le_of_ble_eq_true rfl⟩) rfl rfl rfl rfl (fun _ _ _ => pc_c00) (fun r_8 u_9 H locs hq hw => ?_)
                          have hw : pc_S D A s.heap [(hc, .inr (4, [])), (h0, .inr (0, [.ref hb, .int (zI ((((encF xs b ++ pb (zI ((wF xs b : Nat) : Int)) 4 ++ bodyF xs b (wF xs b) j).length : Nat) : Int))), .int (ta)])), (hb, .inl (dA 0, 400, .inl f)), (ha, .inl (dA 1, 24, .inl g))] H locs := hw
                          subst hq
                          refine lv_iload X.x X.b dX6_encode_93 (lv_at hl 6 rfl) ?_
                          refine cv_v (c1 := 0) (s1 := 0) X hw [1, 2] [0, 3] (wr := [(hc, .inr (4, [])), (ha, .inl (dA 1, 24, .inl g))]) (va_runV (As := [.int (zI (((gap xs (8 * b + j) : Nat) : Int))), .int (zI (((wF xs b : Nat) : Int)))]) (rest := []) X.fix (m_Row_put l hst D dA h0 hb (ta) (encF xs b ++ pb (zI ((wF xs b : Nat) : Int)) 4 ++ bodyF xs b (wF xs b) j) (zI ((gap xs (8 * b + j) : Nat) : Int)) (wF xs b) f hf (by simp only [List.length_append, pb_len]; omega) _) (cwV 2 X.t (lw_V q404 q383 q384 q46 q385) rfl rfl rfl (by decide +kernel) (pc_rmle (by decide) (by decide))) (pc_preV X hw [1, 2] rfl rfl 0 1 rfl rfl rfl) rfl rfl hl.1 rfl (lv_room (Nat.le_of_ble_eq_true rfl)) dX6_encode_95 ⟨Nat.le_of_ble_eq_true rfl, Nat.le_of_ble_eq_true rfl⟩) rfl rfl rfl rfl (fun _ _ => pc_c00) (fun u_11 H locs hq hw => ?_)
                          have hw : pc_S D A s.heap [(hc, .inr (4, [])), (ha, .inl (dA 1, 24, .inl g)), (h0, .inr (0, [.ref hb, .int (zI (((((encF xs b ++ pb (zI ((wF xs b : Nat) : Int)) 4 ++ bodyF xs b (wF xs b) j) ++ pb (zI ((gap xs (8 * b + j) : Nat) : Int)) (wF xs b)).length : Nat) : Int))), .int (ta)])), (hb, .inl (dA 0, 400, .inl u_11))] H locs := hw
                          have hu_11 := hq
                          refine z_iinc (lv' := [(9, .int (zI (((8 * b + j : Nat) : Int) + 1))), (0, .ref hc), (1, .ref h0), (2, .ref ha), (3, .int (zI (((xs.length : Nat) : Int)))), (5, .int (zI (((8 * b : Nat) : Int)))), (6, .int (zI (((8 * b + cF xs.length b : Nat) : Int)))), (8, .int (zI (((wF xs b : Nat) : Int))))]) X dX6_encode_98 hl (k0 := 7) rfl (by decide) rfl (fun ls hl => ?_)
                          have hl : lv_has ls 10 [(9, .int (zI (((8 * b + (j + 1) : Nat) : Int)))), (0, .ref hc), (1, .ref h0), (2, .ref ha), (3, .int (zI (((xs.length : Nat) : Int)))), (5, .int (zI (((8 * b : Nat) : Int)))), (6, .int (zI (((8 * b + cF xs.length b : Nat) : Int)))), (8, .int (zI (((wF xs b : Nat) : Int))))] := by rw [show (((8 * b + (j + 1) : Nat) : Int) : Int) = ((8 * b + j : Nat) : Int) + 1 from by omega]; exact hl
                          refine lv_goto (tgt := 79) X.x X.b dX6_encode_101 (by decide) ?_
                          have e9 : (encF xs b ++ pb (zI ((wF xs b : Nat) : Int)) 4 ++ bodyF xs b (wF xs b) j) ++ pb (zI ((gap xs (8 * b + j) : Nat) : Int)) (wF xs b) = encF xs b ++ pb (zI ((wF xs b : Nat) : Int)) 4 ++ bodyF xs b (wF xs b) (j + 1) := by rw [bodyF_succ, ← List.append_assoc]
                          rw [e9] at hw hu_11
                          exact ih79  (j + 1) u_11 (by omega) hu_11 (by omega) H locs (hw.sub [0, 2, 3, 1] rfl rfl) ls (lv_sub hl [1, 2, 3, 4, 5, 6, 7, 0] rfl)
                    have e9 : (encF xs b) ++ pb (zI ((wF xs b : Nat) : Int)) 4 = encF xs b ++ pb (zI ((wF xs b : Nat) : Int)) 4 ++ bodyF xs b (wF xs b) 0 := by simp [bodyF]
                    rw [e9] at hw hu_6
                    exact B79 _ 0 u_6 (Nat.zero_le _) hu_6 (Nat.lt_succ_self _) H locs (hw.sub [0, 2, 3, 1] rfl rfl) ls (lv_sub hl [1, 2, 3, 4, 5, 6, 8, 0] rfl)
                  · skip
                    refine z_iinc (lv' := [(8, .int (zI (((L : Nat) : Int) + 1))), (0, .ref hc), (1, .ref h0), (2, .ref ha), (3, .int (zI (((xs.length : Nat) : Int)))), (5, .int (zI (((8 * b : Nat) : Int)))), (6, .int (zI (((8 * b + cF xs.length b : Nat) : Int)))), (7, .int (zI (((orF xs (8 * b) (cF xs.length b) : Nat) : Int))))]) X dX6_encode_62 hl (k0 := 7) rfl (by decide) rfl (fun ls hl => ?_)
                    have hl : lv_has ls 10 [(8, .int (zI (((L + 1 : Nat) : Int)))), (0, .ref hc), (1, .ref h0), (2, .ref ha), (3, .int (zI (((xs.length : Nat) : Int)))), (5, .int (zI (((8 * b : Nat) : Int)))), (6, .int (zI (((8 * b + cF xs.length b : Nat) : Int)))), (7, .int (zI (((orF xs (8 * b) (cF xs.length b) : Nat) : Int))))] := by rw [show (((L + 1 : Nat) : Int) : Int) = ((L : Nat) : Int) + 1 from by omega]; exact hl
                    refine lv_goto (tgt := 54) X.x X.b dX6_encode_65 (by decide) ?_
                    exact ih54  (L + 1) (bl_step (by rw [← hq_3]; omega)) (by omega) H locs hw ls (lv_sub hl [1, 2, 3, 4, 5, 6, 7, 0] rfl)
              exact B54 _ 0 (Nat.zero_le _) (Nat.lt_succ_self _) H locs hw ls (lv_sub hl [0, 1, 2, 3, 4, 5, 6, 7] rfl)
            · skip
              refine lv_iload X.x X.b dX6_encode_37 (lv_at hl 6 rfl) ?_
              refine lv_aload_n X.x X.b dX6_encode_39 rfl (lv_at hl 2 rfl) ?_
              refine lv_iload X.x X.b dX6_encode_40 (lv_at hl 8 rfl) ?_
              refine cv_i (c1 := 0) (s1 := 0) X hw [3] [0, 1, 2] (wr := [(hc, .inr (4, [])), (h0, .inr (0, [.ref hb, .int (zI ((((encF xs b).length : Nat) : Int))), .int (ta)])), (hb, .inl (dA 0, 400, .inl f))]) (va_runSN (As := [.ref ha, .int (zI (((8 * b + j : Nat) : Int)))]) (rest := [.int (zI (((orF xs (8 * b) j : Nat) : Int)))]) X.fix (m_behind l hst D dA ha xs g (8 * b + j) hg hv (by omega) _) ⟨va_cnB 2 X.t (lw_meth q375) rfl rfl rfl (pc_nl14 X.N) (X.t _ q37) (by decide +kernel) (pc_rmle (by decide) (by decide)), X.t _ q374, trivial⟩ (pc_preS X hw [3] rfl rfl) rfl rfl hl.1 rfl (lv_room (Nat.le_of_ble_eq_true rfl)) dX6_encode_42 ⟨Nat.le_of_ble_eq_true rfl, Nat.le_of_ble_eq_true rfl⟩) rfl rfl rfl rfl (fun _ _ _ => pc_c00) (fun r_12 u_13 H locs hq hw => ?_)
              have hw : pc_S D A s.heap [(hc, .inr (4, [])), (h0, .inr (0, [.ref hb, .int (zI ((((encF xs b).length : Nat) : Int))), .int (ta)])), (hb, .inl (dA 0, 400, .inl f)), (ha, .inl (dA 1, 24, .inl g))] H locs := hw
              subst hq
              have hgp := gap_le hv (i := 8 * b + j) (by omega)
              refine lv_ior X.x X.b dX6_encode_45 ?_
              refine top_i (y := zI ((orF xs (8 * b) (j + 1) : Nat) : Int)) ((zI_or (n := orF xs (8 * b) j) (by omega) (m := gap xs (8 * b + j)) (by omega)).trans (congrArg (fun q : Nat => zI (q : Int)) (orF_succ _ _ _).symm)) ?_
              refine lv_istore (lv' := [(7, .int (zI (((orF xs (8 * b) (j + 1) : Nat) : Int)))), (0, .ref hc), (1, .ref h0), (2, .ref ha), (3, .int (zI (((xs.length : Nat) : Int)))), (5, .int (zI (((8 * b : Nat) : Int)))), (6, .int (zI (((8 * b + cF xs.length b : Nat) : Int)))), (8, .int (zI 0)), (9, .int (zI (((8 * b + j : Nat) : Int))))]) X.x X.b dX6_encode_46 hl (by decide) rfl (fun ls hl => ?_)
              refine z_iinc (lv' := [(9, .int (zI (((8 * b + j : Nat) : Int) + 1))), (7, .int (zI (((orF xs (8 * b) (j + 1) : Nat) : Int)))), (0, .ref hc), (1, .ref h0), (2, .ref ha), (3, .int (zI (((xs.length : Nat) : Int)))), (5, .int (zI (((8 * b : Nat) : Int)))), (6, .int (zI (((8 * b + cF xs.length b : Nat) : Int)))), (8, .int (zI 0))]) X dX6_encode_48 hl (k0 := 8) rfl (by decide) rfl (fun ls hl => ?_)
              have hl : lv_has ls 10 [(9, .int (zI (((8 * b + (j + 1) : Nat) : Int)))), (7, .int (zI (((orF xs (8 * b) (j + 1) : Nat) : Int)))), (0, .ref hc), (1, .ref h0), (2, .ref ha), (3, .int (zI (((xs.length : Nat) : Int)))), (5, .int (zI (((8 * b : Nat) : Int)))), (6, .int (zI (((8 * b + cF xs.length b : Nat) : Int)))), (8, .int (zI 0))] := by rw [show (((8 * b + (j + 1) : Nat) : Int) : Int) = ((8 * b + j : Nat) : Int) + 1 from by omega]; exact hl
              refine lv_goto (tgt := 30) X.x X.b dX6_encode_51 (by decide) ?_
              exact ih30  (j + 1) (by omega) (by omega) H locs hw ls (lv_sub hl [2, 3, 4, 5, 6, 7, 1, 8, 0] rfl)
        exact B30 _ 0 (Nat.zero_le _) (Nat.lt_succ_self _) H locs hw ls (lv_sub hl [4, 5, 6, 7, 8, 3, 2, 1, 0] rfl)
  exact B3 _ 0 f (by omega) (RowIs.nil f) (Nat.lt_succ_self _) H locs hw ls (lv_sub hl [1, 2, 3, 4, 0] rfl)
set_option maxHeartbeats 4000000 in
/-- decode, PostingCodes$Frames -/
theorem m_dec_3 (l : Launch) (hst : l.stackTraces = false) (D : va_G) (dA : Nat → ClassId) (hc h0 hb ha : Nat) (bs : List Bool) (k n : Nat) (f g : Nat → Int32) (hf : RowIs bs f) (h4 : bs.length ≤ 400) (hk : k ≤ 7) (hn : n ≤ 24) (t : Bool) (ht : t = (decF bs n).isNone) : px_V l yX6_decode (ws_ yX6_decode cX6_decode 7 none) (pc_rm 3 (cond t 1 0) (cond t 6 0)) D dA [.ref hc, .ref h0, .ref ha, .int (zI (((n : Nat) : Int))), .int (zI (((k : Nat) : Int)))] [(hc, .inr (4, [])), (h0, .inr (0, [.ref hb, .int (zI (((bs.length : Nat) : Int))), .int (zI 0)])), (hb, .inl (dA 0, 400, .inl f)), (ha, .inl (dA 1, 24, .inl g))] (fun u : (Nat → Int32) × Int32 => t = false ∧ ∃ ys q, decF bs n = some (ys, q) ∧ ArrIs ys u.1) (fun u : (Nat → Int32) × Int32 => [(hc, .inr (4, [])), (h0, .inr (0, [.ref hb, .int (zI (((bs.length : Nat) : Int))), .int (u.2)])), (hb, .inl (dA 0, 400, .inl f)), (ha, .inl (dA 1, 24, .inl u.1))]) (fun E (_ : (Nat → Int32) × Int32) => E = xIAE ∧ t = true) (fun u : (Nat → Int32) × Int32 => [(hc, .inr (4, [])), (h0, .inr (0, [.ref hb, .int (zI (((bs.length : Nat) : Int))), .int (u.2)])), (hb, .inl (dA 0, 400, .inl f)), (ha, .inl (dA 1, 24, .inl u.1))]) := by
  refine sx_v hst (by decide) RX6 rfl (Nat.le_of_ble_eq_true rfl) ?_
  intro pg ev s mt args below meth cd R A Q hR X exit hout hthr H locs hw ls hl
  subst hR
  have hl : lv_has ls 7 [(0, .ref hc), (1, .ref h0), (2, .ref ha), (3, .int (zI (((n : Nat) : Int)))), (4, .int (zI (((k : Nat) : Int))))] := hl
  refine z_iconst X dX6_decode_0 ?_
  refine lv_istore (lv' := [(5, .int (zI 0)), (0, .ref hc), (1, .ref h0), (2, .ref ha), (3, .int (zI (((n : Nat) : Int)))), (4, .int (zI (((k : Nat) : Int))))]) X.x X.b dX6_decode_1 hl (by decide) rfl (fun ls hl => ?_)
  refine z_iconst X dX6_decode_3 ?_
  refine lv_istore (lv' := [(6, .int (zI 0)), (5, .int (zI 0)), (0, .ref hc), (1, .ref h0), (2, .ref ha), (3, .int (zI (((n : Nat) : Int)))), (4, .int (zI (((k : Nat) : Int))))]) X.x X.b dX6_decode_4 hl (by decide) rfl (fun ls hl => ?_)
  have B6 : ∀ (NN : Nat) (ys : List Nat) (p : Nat) (w9 : Nat) (g : Nat → Int32) (hd : decF bs ys.length = some (ys, p, w9)) (hs : Small ys) (hfa : ArrIs ys g) (hp : p ≤ bs.length) (hyn : ys.length ≤ n) (hw9 : w9 ≤ 15) (hNN : n - ys.length < NN) (H : Heap) (locs : List Loc), pc_S D A s.heap [(hc, .inr (4, [])), (h0, .inr (0, [.ref hb, .int (zI (((bs.length : Nat) : Int))), .int (zI (((p : Nat) : Int)))])), (hb, .inl (dA 0, 400, .inl f)), (ha, .inl (dA 1, 24, .inl g))] H locs → ∀ ls : Array Slot, lv_has ls 7 [(0, .ref hc), (1, .ref h0), (2, .ref ha), (3, .int (zI (((n : Nat) : Int)))), (5, .int (zI (((w9 : Nat) : Int)))), (6, .int (zI (((ys.length : Nat) : Int))))] → W pg l ev (pc_rm 3 (cond t 1 0) (cond t 6 0)) s mt args below meth cd H locs 0 0 Q (F0 mt 6 ls []) := by
    intro NN
    induction NN with
    | zero => intro ys p w9 g hd hs hfa hp hyn hw9 hNN; exact absurd hNN (Nat.not_lt_zero _)
    | succ NN ih6 =>
      intro ys p w9 g hd hs hfa hp hyn hw9 hNN H locs hw ls hl
      refine lv_iload X.x X.b dX6_decode_6 (lv_at hl 5 rfl) ?_
      refine lv_iload_n X.x X.b dX6_decode_8 rfl (lv_at hl 3 rfl) ?_
      refine z_icmp_ge (tgt := 45) X dX6_decode_9 (by decide) (by omega) (by omega) (fun c_1 => ?_) (fun c_1 => ?_)
      · skip
        have hyn9 : ys.length = n := by omega
        rw [hyn9] at hd
        exact exit (g, zI ((p : Nat) : Int)) dX6_decode_45 ⟨by rw [ht, hd]; rfl, ys, _, hd, hfa⟩ hw (Nat.zero_le _) (Nat.zero_le _)
      · skip
        refine lv_iload X.x X.b dX6_decode_12 (lv_at hl 5 rfl) ?_
        refine z_bipush X dX6_decode_14 (by decide) ?_
        refine lv_irem X.x X.b dX6_decode_16 (by decide) ?_
        refine top_i (y := zI ((ys.length % 8 : Nat) : Int)) (zI_rem (n := ys.length) (by omega) (d := 8) (by omega)) ?_
        refine z_if_ne (tgt := 27) X dX6_decode_17 (by decide) (by omega) (fun c_2 => ?_) (fun c_2 => ?_)
        · skip
          have h8 : ¬ ys.length % 8 = 0 := by omega
          have hwat : wat bs ys.length p w9 = (p, w9) := if_neg h8
          have hi8 : ys.length % 8 = 0 → ¬ bs.length < p + 4 := fun q => absurd q h8
          refine lv_aload_n X.x X.b dX6_decode_27 rfl (lv_at hl 2 rfl) ?_
          refine lv_iload X.x X.b dX6_decode_28 (lv_at hl 5 rfl) ?_
          refine lv_aload_n X.x X.b dX6_decode_30 rfl (lv_at hl 1 rfl) ?_
          refine lv_iload X.x X.b dX6_decode_31 (lv_at hl 4 rfl) ?_
          obtain ⟨t_3, ht_3⟩ : ∃ q : Bool, q = (decide (bs.length < p + w9)) := ⟨_, rfl⟩
          refine cx_i (c1 := 0) (s1 := 0) X hw [1, 2] [0, 3] (wr := [(hc, .inr (4, [])), (ha, .inl (dA 1, 24, .inl g))]) (vx_runV (As := [.int (zI (((w9 : Nat) : Int)))]) (rest := [.int (zI (((ys.length : Nat) : Int))), .ref ha]) X.fix (m_Row_take l hst D dA h0 hb p bs w9 f hf (by omega) (by omega) (by omega) t_3 ht_3 _) (cwV 1 X.t (lw_V q558 q532 q533 q46 q534) rfl rfl rfl (by decide +kernel) (pc_rmle (by decide) (by decide))) (pc_preV X hw [1, 2] rfl rfl 0 1 rfl rfl rfl) rfl rfl hl.1 rfl (lv_room (Nat.le_of_ble_eq_true rfl)) dX6_decode_33 (pc_c1 (fun h => by rw [ht_3] at h; rw [ht, decF_mono (decF_b hd hi8 (by rw [hwat]; exact of_decide_eq_true h)) (by omega)]; rfl))) rfl rfl rfl rfl (fun E ce q9 ux_6 H locs hq hw h1 h2 h3 => ?_) (fun r u hq => pc_c0 hq.1) (fun r_4 u_5 H locs hq hw => ?_)
          · skip
            have hw : pc_S D A s.heap [(hc, .inr (4, [])), (ha, .inl (dA 1, 24, .inl g)), (h0, .inr (0, [.ref hb, .int (zI (((bs.length : Nat) : Int))), .int (ux_6)])), (hb, .inl (dA 0, 400, .inl f))] H locs := hw
            have hw : pc_S D A s.heap [(hc, .inr (4, [])), (h0, .inr (0, [.ref hb, .int (zI (((bs.length : Nat) : Int))), .int (ux_6)])), (hb, .inl (dA 0, 400, .inl f)), (ha, .inl (dA 1, 24, .inl g))] H locs := hw.sub [0, 2, 3, 1] rfl rfl
            exact hout (g, ux_6) h1 h2 h3 (⟨hq.1, (fun h => by rw [ht_3] at h; rw [ht, decF_mono (decF_b hd hi8 (by rw [hwat]; exact of_decide_eq_true h)) (by omega)]; rfl) hq.2⟩) hw (pc_c1 (fun h => by rw [ht_3] at h; rw [ht, decF_mono (decF_b hd hi8 (by rw [hwat]; exact of_decide_eq_true h)) (by omega)]; rfl)).1 (pc_c1 (fun h => by rw [ht_3] at h; rw [ht, decF_mono (decF_b hd hi8 (by rw [hwat]; exact of_decide_eq_true h)) (by omega)]; rfl)).2
          · skip
            have hw : pc_S D A s.heap [(hc, .inr (4, [])), (ha, .inl (dA 1, 24, .inl g)), (h0, .inr (0, [.ref hb, .int (zI (((bs.length : Nat) : Int))), .int (zI (((p + w9 : Nat) : Int)))])), (hb, .inl (dA 0, 400, .inl f))] H locs := hw
            obtain ⟨hq, rfl⟩ := hq
            have hq : ¬ bs.length < p + w9 := by rw [ht_3] at hq; simpa using hq
            refine top_i (y := zI ((rdN bs p w9 : Nat) : Int)) rfl ?_
            have hr15 : rdN bs p w9 < 32768 := rdN_lt bs _ (k := 15) (by omega)
            have hp8 : ¬ bs.length < (wat bs ys.length p w9).1 + (wat bs ys.length p w9).2 := by rw [hwat]; exact hq
            obtain ⟨t_7, ht_7⟩ : ∃ q : Bool, q = (!decide ((rdN bs p w9) ≤ 4095 ∧ lastI ys + 1 + ((rdN bs p w9) : Int) ≤ 4095)) := ⟨_, rfl⟩
            refine cx_v (c1 := 0) (s1 := 0) X hw [1] [0, 2, 3] (wr := [(hc, .inr (4, [])), (h0, .inr (0, [.ref hb, .int (zI (((bs.length : Nat) : Int))), .int (zI (((p + w9 : Nat) : Int)))])), (hb, .inl (dA 0, 400, .inl f))]) (vx_runSN (As := [.ref ha, .int (zI (((ys.length : Nat) : Int))), .int (zI (((rdN bs p w9 : Nat) : Int)))]) (rest := []) X.fix (m_follow l hst D dA ha g ys.length (rdN bs p w9) (lastI ys) (by omega) (by omega) (lastI_rng hs) (lastI_arr hs hfa) t_7 ht_7 _) ⟨va_cnB 3 X.t (lw_meth q552) rfl rfl rfl (pc_nl19 X.N) (X.t _ q37) (by decide +kernel) (pc_rmle (by decide) (by decide)), X.t _ q551, trivial⟩ (pc_preS X hw [1] rfl rfl) rfl rfl hl.1 rfl (lv_room (Nat.le_of_ble_eq_true rfl)) dX6_decode_36 (pc_c1 (fun h => by rw [ht_7] at h; rw [ht, decF_mono (i := ys.length + 1) (by rw [decF_c hd hi8 hp8, hwat]; dsimp only; rw [dstep_none (nd_t h)]) (by omega)]; rfl))) rfl rfl rfl rfl (fun E ce q9 ux_10 H locs hq hw h1 h2 h3 => ?_) (fun u hq => pc_c0 hq) (fun u_9 H locs hq hw => ?_)
            · skip
              have hw : pc_S D A s.heap [(hc, .inr (4, [])), (h0, .inr (0, [.ref hb, .int (zI (((bs.length : Nat) : Int))), .int (zI (((p + w9 : Nat) : Int)))])), (hb, .inl (dA 0, 400, .inl f)), (ha, .inl (dA 1, 24, .inl g))] H locs := hw
              exact hout (g, zI ((p + w9 : Nat) : Int)) h1 h2 h3 (⟨hq.1, (fun h => by rw [ht_7] at h; rw [ht, decF_mono (i := ys.length + 1) (by rw [decF_c hd hi8 hp8, hwat]; dsimp only; rw [dstep_none (nd_t h)]) (by omega)]; rfl) hq.2⟩) hw (pc_c1 (fun h => by rw [ht_7] at h; rw [ht, decF_mono (i := ys.length + 1) (by rw [decF_c hd hi8 hp8, hwat]; dsimp only; rw [dstep_none (nd_t h)]) (by omega)]; rfl)).1 (pc_c1 (fun h => by rw [ht_7] at h; rw [ht, decF_mono (i := ys.length + 1) (by rw [decF_c hd hi8 hp8, hwat]; dsimp only; rw [dstep_none (nd_t h)]) (by omega)]; rfl)).2
            · skip
              have hw : pc_S D A s.heap [(hc, .inr (4, [])), (h0, .inr (0, [.ref hb, .int (zI (((bs.length : Nat) : Int))), .int (zI (((p + w9 : Nat) : Int)))])), (hb, .inl (dA 0, 400, .inl f)), (ha, .inl (dA 1, 24, .inl (upd g ys.length (zI (lastI ys + 1 + ((rdN bs p w9) : Int))))))] H locs := hw
              rw [ht_7] at hq
              have hq : (rdN bs p w9) ≤ 4095 ∧ lastI ys + 1 + ((rdN bs p w9) : Int) ≤ 4095 := nd_f hq
              have e9 := nxt_int hs (rdN bs p w9)
              have hds := dstep_some hs (h := (rdN bs p w9)) hq
              rw [← e9] at hw
              have hw : pc_S D A s.heap [(hc, .inr (4, [])), (h0, .inr (0, [.ref hb, .int (zI (((bs.length : Nat) : Int))), .int (zI (((p + w9 : Nat) : Int)))])), (hb, .inl (dA 0, 400, .inl f)), (ha, .inl (dA 1, 24, .inl (upd g ys.length (zI ((nxt ys (rdN bs p w9) : Nat) : Int)))))] H locs := hw
              refine z_iinc (lv' := [(6, .int (zI (((ys.length : Nat) : Int) + 1))), (0, .ref hc), (1, .ref h0), (2, .ref ha), (3, .int (zI (((n : Nat) : Int)))), (5, .int (zI (((w9 : Nat) : Int))))]) X dX6_decode_39 hl (k0 := 5) rfl (by decide) rfl (fun ls hl => ?_)
              have hl : lv_has ls 7 [(6, .int (zI (((ys.length + 1 : Nat) : Int)))), (0, .ref hc), (1, .ref h0), (2, .ref ha), (3, .int (zI (((n : Nat) : Int)))), (5, .int (zI (((w9 : Nat) : Int))))] := by rw [show (((ys.length + 1 : Nat) : Int) : Int) = ((ys.length : Nat) : Int) + 1 from by omega]; exact hl
              refine lv_goto (tgt := 6) X.x X.b dX6_decode_42 (by decide) ?_
              have hl9 : (ys ++ [nxt ys (rdN bs p w9)]).length = ys.length + 1 := by simp
              have hl : lv_has ls 7 [(6, .int (zI ((((ys ++ [nxt ys (rdN bs p w9)]).length : Nat) : Int)))), (0, .ref hc), (1, .ref h0), (2, .ref ha), (3, .int (zI (((n : Nat) : Int)))), (5, .int (zI (((w9 : Nat) : Int))))] := by rw [show ((((ys ++ [nxt ys (rdN bs p w9)]).length : Nat) : Int) : Int) = ((ys.length + 1 : Nat) : Int) from by omega]; exact hl
              exact ih6  (ys ++ [nxt ys (rdN bs p w9)]) (p + w9) w9 (upd g ys.length (zI ((nxt ys (rdN bs p w9) : Nat) : Int))) (by rw [hl9, decF_c hd hi8 hp8, hwat]; dsimp only; rw [hds.1]) hds.2 (ArrIs.push hfa _) (by omega) (by omega) (by omega) (by omega) H locs hw ls (lv_sub hl [1, 2, 3, 4, 5, 0] rfl)
        · skip
          have h8 : ys.length % 8 = 0 := by omega
          refine lv_aload_n X.x X.b dX6_decode_20 rfl (lv_at hl 1 rfl) ?_
          refine z_iconst X dX6_decode_21 ?_
          obtain ⟨t_11, ht_11⟩ : ∃ q : Bool, q = (decide (bs.length < p + 4)) := ⟨_, rfl⟩
          refine cx_i (c1 := 0) (s1 := 0) X hw [1, 2] [0, 3] (wr := [(hc, .inr (4, [])), (ha, .inl (dA 1, 24, .inl g))]) (vx_runV (As := [.int (zI 4)]) (rest := []) X.fix (m_Row_take l hst D dA h0 hb p bs 4 f hf (by omega) (by omega) (by omega) t_11 ht_11 _) (cwV 1 X.t (lw_V q558 q532 q533 q46 q534) rfl rfl rfl (by decide +kernel) (pc_rmle (by decide) (by decide))) (pc_preV X hw [1, 2] rfl rfl 0 1 rfl rfl rfl) rfl rfl hl.1 rfl (lv_room (Nat.le_of_ble_eq_true rfl)) dX6_decode_22 (pc_c1 (fun h => by rw [ht_11] at h; rw [ht, decF_mono (decF_a hd h8 (of_decide_eq_true h)) (by omega)]; rfl))) rfl rfl rfl rfl (fun E ce q9 ux_14 H locs hq hw h1 h2 h3 => ?_) (fun r u hq => pc_c0 hq.1) (fun r_12 u_13 H locs hq hw => ?_)
          · skip
            have hw : pc_S D A s.heap [(hc, .inr (4, [])), (ha, .inl (dA 1, 24, .inl g)), (h0, .inr (0, [.ref hb, .int (zI (((bs.length : Nat) : Int))), .int (ux_14)])), (hb, .inl (dA 0, 400, .inl f))] H locs := hw
            have hw : pc_S D A s.heap [(hc, .inr (4, [])), (h0, .inr (0, [.ref hb, .int (zI (((bs.length : Nat) : Int))), .int (ux_14)])), (hb, .inl (dA 0, 400, .inl f)), (ha, .inl (dA 1, 24, .inl g))] H locs := hw.sub [0, 2, 3, 1] rfl rfl
            exact hout (g, ux_14) h1 h2 h3 (⟨hq.1, (fun h => by rw [ht_11] at h; rw [ht, decF_mono (decF_a hd h8 (of_decide_eq_true h)) (by omega)]; rfl) hq.2⟩) hw (pc_c1 (fun h => by rw [ht_11] at h; rw [ht, decF_mono (decF_a hd h8 (of_decide_eq_true h)) (by omega)]; rfl)).1 (pc_c1 (fun h => by rw [ht_11] at h; rw [ht, decF_mono (decF_a hd h8 (of_decide_eq_true h)) (by omega)]; rfl)).2
          · skip
            have hw : pc_S D A s.heap [(hc, .inr (4, [])), (ha, .inl (dA 1, 24, .inl g)), (h0, .inr (0, [.ref hb, .int (zI (((bs.length : Nat) : Int))), .int (zI (((p + 4 : Nat) : Int)))])), (hb, .inl (dA 0, 400, .inl f))] H locs := hw
            obtain ⟨hq, rfl⟩ := hq
            have hq : ¬ bs.length < p + 4 := by rw [ht_11] at hq; simpa using hq
            refine top_i (y := zI ((rdN bs p 4 : Nat) : Int)) rfl ?_
            have hr16 : rdN bs p 4 < 16 := rdN_lt bs p (w := 4) (k := 4) (Nat.le_refl _)
            have hwat : wat bs ys.length p w9 = (p + 4, rdN bs p 4) := if_pos h8
            have hi8 : ys.length % 8 = 0 → ¬ bs.length < p + 4 := fun _ => hq
            refine lv_istore (lv' := [(5, .int (zI (((rdN bs p 4 : Nat) : Int)))), (0, .ref hc), (1, .ref h0), (2, .ref ha), (3, .int (zI (((n : Nat) : Int)))), (6, .int (zI (((ys.length : Nat) : Int))))]) X.x X.b dX6_decode_25 hl (by decide) rfl (fun ls hl => ?_)
            refine lv_aload_n X.x X.b dX6_decode_27 rfl (lv_at hl 3 rfl) ?_
            refine lv_iload X.x X.b dX6_decode_28 (lv_at hl 5 rfl) ?_
            refine lv_aload_n X.x X.b dX6_decode_30 rfl (lv_at hl 2 rfl) ?_
            refine lv_iload X.x X.b dX6_decode_31 (lv_at hl 0 rfl) ?_
            obtain ⟨t_15, ht_15⟩ : ∃ q : Bool, q = (decide (bs.length < (p + 4) + (rdN bs p 4))) := ⟨_, rfl⟩
            refine cx_i (c1 := 0) (s1 := 0) X hw [2, 3] [0, 1] (wr := [(hc, .inr (4, [])), (ha, .inl (dA 1, 24, .inl g))]) (vx_runV (As := [.int (zI (((rdN bs p 4 : Nat) : Int)))]) (rest := [.int (zI (((ys.length : Nat) : Int))), .ref ha]) X.fix (m_Row_take l hst D dA h0 hb (p + 4) bs (rdN bs p 4) f hf (by omega) (by omega) (by omega) t_15 ht_15 _) (cwV 1 X.t (lw_V q558 q532 q533 q46 q534) rfl rfl rfl (by decide +kernel) (pc_rmle (by decide) (by decide))) (pc_preV X hw [2, 3] rfl rfl 0 2 rfl rfl rfl) rfl rfl hl.1 rfl (lv_room (Nat.le_of_ble_eq_true rfl)) dX6_decode_33 (pc_c1 (fun h => by rw [ht_15] at h; rw [ht, decF_mono (decF_b hd hi8 (by rw [hwat]; exact of_decide_eq_true h)) (by omega)]; rfl))) rfl rfl rfl rfl (fun E ce q9 ux_18 H locs hq hw h1 h2 h3 => ?_) (fun r u hq => pc_c0 hq.1) (fun r_16 u_17 H locs hq hw => ?_)
            · skip
              have hw : pc_S D A s.heap [(hc, .inr (4, [])), (ha, .inl (dA 1, 24, .inl g)), (h0, .inr (0, [.ref hb, .int (zI (((bs.length : Nat) : Int))), .int (ux_18)])), (hb, .inl (dA 0, 400, .inl f))] H locs := hw
              have hw : pc_S D A s.heap [(hc, .inr (4, [])), (h0, .inr (0, [.ref hb, .int (zI (((bs.length : Nat) : Int))), .int (ux_18)])), (hb, .inl (dA 0, 400, .inl f)), (ha, .inl (dA 1, 24, .inl g))] H locs := hw.sub [0, 2, 3, 1] rfl rfl
              exact hout (g, ux_18) h1 h2 h3 (⟨hq.1, (fun h => by rw [ht_15] at h; rw [ht, decF_mono (decF_b hd hi8 (by rw [hwat]; exact of_decide_eq_true h)) (by omega)]; rfl) hq.2⟩) hw (pc_c1 (fun h => by rw [ht_15] at h; rw [ht, decF_mono (decF_b hd hi8 (by rw [hwat]; exact of_decide_eq_true h)) (by omega)]; rfl)).1 (pc_c1 (fun h => by rw [ht_15] at h; rw [ht, decF_mono (decF_b hd hi8 (by rw [hwat]; exact of_decide_eq_true h)) (by omega)]; rfl)).2
            · skip
              have hw : pc_S D A s.heap [(hc, .inr (4, [])), (ha, .inl (dA 1, 24, .inl g)), (h0, .inr (0, [.ref hb, .int (zI (((bs.length : Nat) : Int))), .int (zI ((((p + 4) + (rdN bs p 4) : Nat) : Int)))])), (hb, .inl (dA 0, 400, .inl f))] H locs := hw
              obtain ⟨hq, rfl⟩ := hq
              have hq : ¬ bs.length < (p + 4) + (rdN bs p 4) := by rw [ht_15] at hq; simpa using hq
              refine top_i (y := zI ((rdN bs (p + 4) (rdN bs p 4) : Nat) : Int)) rfl ?_
              have hr15 : rdN bs (p + 4) (rdN bs p 4) < 32768 := rdN_lt bs _ (k := 15) (by omega)
              have hp8 : ¬ bs.length < (wat bs ys.length p w9).1 + (wat bs ys.length p w9).2 := by rw [hwat]; exact hq
              obtain ⟨t_19, ht_19⟩ : ∃ q : Bool, q = (!decide ((rdN bs (p + 4) (rdN bs p 4)) ≤ 4095 ∧ lastI ys + 1 + ((rdN bs (p + 4) (rdN bs p 4)) : Int) ≤ 4095)) := ⟨_, rfl⟩
              refine cx_v (c1 := 0) (s1 := 0) X hw [1] [0, 2, 3] (wr := [(hc, .inr (4, [])), (h0, .inr (0, [.ref hb, .int (zI (((bs.length : Nat) : Int))), .int (zI ((((p + 4) + (rdN bs p 4) : Nat) : Int)))])), (hb, .inl (dA 0, 400, .inl f))]) (vx_runSN (As := [.ref ha, .int (zI (((ys.length : Nat) : Int))), .int (zI (((rdN bs (p + 4) (rdN bs p 4) : Nat) : Int)))]) (rest := []) X.fix (m_follow l hst D dA ha g ys.length (rdN bs (p + 4) (rdN bs p 4)) (lastI ys) (by omega) (by omega) (lastI_rng hs) (lastI_arr hs hfa) t_19 ht_19 _) ⟨va_cnB 3 X.t (lw_meth q552) rfl rfl rfl (pc_nl19 X.N) (X.t _ q37) (by decide +kernel) (pc_rmle (by decide) (by decide)), X.t _ q551, trivial⟩ (pc_preS X hw [1] rfl rfl) rfl rfl hl.1 rfl (lv_room (Nat.le_of_ble_eq_true rfl)) dX6_decode_36 (pc_c1 (fun h => by rw [ht_19] at h; rw [ht, decF_mono (i := ys.length + 1) (by rw [decF_c hd hi8 hp8, hwat]; dsimp only; rw [dstep_none (nd_t h)]) (by omega)]; rfl))) rfl rfl rfl rfl (fun E ce q9 ux_22 H locs hq hw h1 h2 h3 => ?_) (fun u hq => pc_c0 hq) (fun u_21 H locs hq hw => ?_)
              · skip
                have hw : pc_S D A s.heap [(hc, .inr (4, [])), (h0, .inr (0, [.ref hb, .int (zI (((bs.length : Nat) : Int))), .int (zI ((((p + 4) + (rdN bs p 4) : Nat) : Int)))])), (hb, .inl (dA 0, 400, .inl f)), (ha, .inl (dA 1, 24, .inl g))] H locs := hw
                exact hout (g, zI (((p + 4) + (rdN bs p 4) : Nat) : Int)) h1 h2 h3 (⟨hq.1, (fun h => by rw [ht_19] at h; rw [ht, decF_mono (i := ys.length + 1) (by rw [decF_c hd hi8 hp8, hwat]; dsimp only; rw [dstep_none (nd_t h)]) (by omega)]; rfl) hq.2⟩) hw (pc_c1 (fun h => by rw [ht_19] at h; rw [ht, decF_mono (i := ys.length + 1) (by rw [decF_c hd hi8 hp8, hwat]; dsimp only; rw [dstep_none (nd_t h)]) (by omega)]; rfl)).1 (pc_c1 (fun h => by rw [ht_19] at h; rw [ht, decF_mono (i := ys.length + 1) (by rw [decF_c hd hi8 hp8, hwat]; dsimp only; rw [dstep_none (nd_t h)]) (by omega)]; rfl)).2
              · skip
                have hw : pc_S D A s.heap [(hc, .inr (4, [])), (h0, .inr (0, [.ref hb, .int (zI (((bs.length : Nat) : Int))), .int (zI ((((p + 4) + (rdN bs p 4) : Nat) : Int)))])), (hb, .inl (dA 0, 400, .inl f)), (ha, .inl (dA 1, 24, .inl (upd g ys.length (zI (lastI ys + 1 + ((rdN bs (p + 4) (rdN bs p 4)) : Int))))))] H locs := hw
                rw [ht_19] at hq
                have hq : (rdN bs (p + 4) (rdN bs p 4)) ≤ 4095 ∧ lastI ys + 1 + ((rdN bs (p + 4) (rdN bs p 4)) : Int) ≤ 4095 := nd_f hq
                have e9 := nxt_int hs (rdN bs (p + 4) (rdN bs p 4))
                have hds := dstep_some hs (h := (rdN bs (p + 4) (rdN bs p 4))) hq
                rw [← e9] at hw
                have hw : pc_S D A s.heap [(hc, .inr (4, [])), (h0, .inr (0, [.ref hb, .int (zI (((bs.length : Nat) : Int))), .int (zI ((((p + 4) + (rdN bs p 4) : Nat) : Int)))])), (hb, .inl (dA 0, 400, .inl f)), (ha, .inl (dA 1, 24, .inl (upd g ys.length (zI ((nxt ys (rdN bs (p + 4) (rdN bs p 4)) : Nat) : Int)))))] H locs := hw
                refine z_iinc (lv' := [(6, .int (zI (((ys.length : Nat) : Int) + 1))), (5, .int (zI (((rdN bs p 4 : Nat) : Int)))), (0, .ref hc), (1, .ref h0), (2, .ref ha), (3, .int (zI (((n : Nat) : Int))))]) X dX6_decode_39 hl (k0 := 5) rfl (by decide) rfl (fun ls hl => ?_)
                have hl : lv_has ls 7 [(6, .int (zI (((ys.length + 1 : Nat) : Int)))), (5, .int (zI (((rdN bs p 4 : Nat) : Int)))), (0, .ref hc), (1, .ref h0), (2, .ref ha), (3, .int (zI (((n : Nat) : Int))))] := by rw [show (((ys.length + 1 : Nat) : Int) : Int) = ((ys.length : Nat) : Int) + 1 from by omega]; exact hl
                refine lv_goto (tgt := 6) X.x X.b dX6_decode_42 (by decide) ?_
                have hl9 : (ys ++ [nxt ys (rdN bs (p + 4) (rdN bs p 4))]).length = ys.length + 1 := by simp
                have hl : lv_has ls 7 [(6, .int (zI ((((ys ++ [nxt ys (rdN bs (p + 4) (rdN bs p 4))]).length : Nat) : Int)))), (5, .int (zI (((rdN bs p 4 : Nat) : Int)))), (0, .ref hc), (1, .ref h0), (2, .ref ha), (3, .int (zI (((n : Nat) : Int))))] := by rw [show ((((ys ++ [nxt ys (rdN bs (p + 4) (rdN bs p 4))]).length : Nat) : Int) : Int) = ((ys.length + 1 : Nat) : Int) from by omega]; exact hl
                exact ih6  (ys ++ [nxt ys (rdN bs (p + 4) (rdN bs p 4))]) ((p + 4) + (rdN bs p 4)) (rdN bs p 4) (upd g ys.length (zI ((nxt ys (rdN bs (p + 4) (rdN bs p 4)) : Nat) : Int))) (by rw [hl9, decF_c hd hi8 hp8, hwat]; dsimp only; rw [hds.1]) hds.2 (ArrIs.push hfa _) (by omega) (by omega) (by omega) (by omega) H locs hw ls (lv_sub hl [2, 3, 4, 5, 1, 0] rfl)
  exact B6 _ ([]) 0 0 g rfl Small.nil (ArrIs.nil g) (Nat.zero_le _) (Nat.zero_le _) (Nat.zero_le _) (Nat.lt_succ_self _) H locs hw ls (lv_sub hl [2, 3, 4, 5, 1, 0] rfl)
set_option maxHeartbeats 4000000 in
/-- Split.low -/
theorem m_low (l : Launch) (hst : l.stackTraces = false) (D : va_G) (dA : Nat → ClassId) (n : Nat) (hn : n ≤ 24) : pc_I l yX7_low cX7_low 2 .int (pc_rm 1 0 0) D dA [.int (zI (((n : Nat) : Int)))] [] (fun r (_ : Unit) => r = zI ((lowN n : Nat) : Int)) (fun _ => []) := by
  refine st_i hst (by decide) RX7 rfl (Nat.le_of_ble_eq_true rfl) ?_
  intro pg ev s mt args below meth cd R A Q hR X exit H locs hw ls hl
  subst hR
  have hl : lv_has ls 2 [(0, .int (zI (((n : Nat) : Int))))] := hl
  refine z_iconst X dX7_low_0 ?_
  refine lv_istore_n (lv' := [(1, .int (zI 0)), (0, .int (zI (((n : Nat) : Int))))]) X.x X.b dX7_low_1 rfl hl (by decide) rfl (fun ls hl => ?_)
  have B2 : ∀ (NN : Nat) (L : Nat) (hL : n * 2 ^ L ≤ 4096) (h0 : n = 0 → L = 0) (hNN : 40 - L < NN) (H : Heap) (locs : List Loc), pc_S D A s.heap [] H locs → ∀ ls : Array Slot, lv_has ls 2 [(0, .int (zI (((n : Nat) : Int)))), (1, .int (zI (((L : Nat) : Int))))] → W pg l ev (pc_rm 1 0 0) s mt args below meth cd H locs 0 0 Q (F0 mt 2 ls []) := by
    intro NN
    induction NN with
    | zero => intro L hL h0 hNN; exact absurd hNN (Nat.not_lt_zero _)
    | succ NN ih2 =>
      intro L hL h0 hNN H locs hw ls hl
      have hpw : n * 2 ^ (L + 1) = n * 2 ^ L * 2 := by rw [Nat.pow_succ, Nat.mul_assoc]
      have hL12 : 0 < n → L ≤ 12 := by
        intro q
        rcases Nat.lt_or_ge L 13 with e | e
        · omega
        · have h1 : 2 ^ 13 ≤ 2 ^ L := Nat.pow_le_pow_right (by decide) e
          have h2 := Nat.mul_le_mul q h1
          omega
      refine lv_iload_n X.x X.b dX7_low_2 rfl (lv_at hl 0 rfl) ?_
      refine z_if_le (tgt := 23) X dX7_low_3 (by decide) (by omega) (fun c_1 => ?_) (fun c_1 => ?_)
      · skip
        refine lv_iload_n X.x X.b dX7_low_23 rfl (lv_at hl 1 rfl) ?_
        exact exit () dX7_low_24 rfl (by rw [h0 (by omega), show n = 0 from by omega]; rfl) hw (Nat.zero_le _) (Nat.zero_le _)
      · skip
        have hn0 : 0 < n := by omega
        have hL12 := hL12 hn0
        refine lv_iload_n X.x X.b dX7_low_6 rfl (lv_at hl 0 rfl) ?_
        refine lv_iload_n X.x X.b dX7_low_7 rfl (lv_at hl 1 rfl) ?_
        refine z_iconst X dX7_low_8 ?_
        refine z_iadd X dX7_low_9 ?_
        refine top_i (y := zI ((L + 1 : Nat) : Int)) (congrArg zI (by omega)) ?_
        refine lv_ishl X.x X.b dX7_low_10 ?_
        refine top_i (y := zI ((n * 2 ^ (L + 1) : Nat) : Int)) (zI_shl (n := n) (by omega) (k := (L + 1)) (by omega) (by omega)) ?_
        obtain ⟨q_2, hq_2⟩ : ∃ q : Nat, q = n * 2 ^ (L + 1) := ⟨_, rfl⟩
        refine top_i (y := zI ((q_2 : Nat) : Int)) (by rw [hq_2]) ?_
        rw [← hq_2] at hpw
        refine z_sipush X dX7_low_11 (by decide) ?_
        refine z_icmp_gt (tgt := 23) X dX7_low_14 (by decide) (by omega) (by omega) (fun c_3 => ?_) (fun c_3 => ?_)
        · skip
          refine lv_iload_n X.x X.b dX7_low_23 rfl (lv_at hl 1 rfl) ?_
          exact exit () dX7_low_24 rfl (by rw [lowN_is (n := n) (l := L) hn0 hn hL (by rw [← hq_2]; omega)]) hw (Nat.zero_le _) (Nat.zero_le _)
        · skip
          refine z_iinc (lv' := [(1, .int (zI (((L : Nat) : Int) + 1))), (0, .int (zI (((n : Nat) : Int))))]) X dX7_low_17 hl (k0 := 1) rfl (by decide) rfl (fun ls hl => ?_)
          have hl : lv_has ls 2 [(1, .int (zI (((L + 1 : Nat) : Int)))), (0, .int (zI (((n : Nat) : Int))))] := by rw [show (((L + 1 : Nat) : Int) : Int) = ((L : Nat) : Int) + 1 from by omega]; exact hl
          refine lv_goto (tgt := 2) X.x X.b dX7_low_20 (by decide) ?_
          exact ih2  (L + 1) (by omega) (by omega) (by omega) H locs hw ls (lv_sub hl [1, 0] rfl)
  exact B2 _ 0 (by omega) (fun _ => rfl) (Nat.lt_succ_self _) H locs hw ls (lv_sub hl [1, 0] rfl)
set_option maxHeartbeats 4000000 in
/-- Split.encode -/
theorem m_enc_4 (l : Launch) (hst : l.stackTraces = false) (D : va_G) (dA : Nat → ClassId) (hc h0 hb ha : Nat) (ta : Int32) (xs : List Nat) (k : Nat) (f g : Nat → Int32) (hv : Valid xs) (hg : ArrIs xs g) : pc_V l yX7_encode cX7_encode 9 (pc_rm 3 0 0) D dA [.ref hc, .ref h0, .ref ha, .int (zI (((xs.length : Nat) : Int))), .int (zI ((k : Nat) : Int))] [(hc, .inr (5, [])), (h0, .inr (0, [.ref hb, .int (zI 0), .int (ta)])), (hb, .inl (dA 0, 400, .inl f)), (ha, .inl (dA 1, 24, .inl g))] (fun f' : Nat → Int32 => RowIs (encS xs) f') (fun f' => [(hc, .inr (5, [])), (h0, .inr (0, [.ref hb, .int (zI ((((encS xs).length : Nat) : Int))), .int (ta)])), (hb, .inl (dA 0, 400, .inl f')), (ha, .inl (dA 1, 24, .inl g))]) := by
  refine st_v hst (by decide) RX7 rfl (Nat.le_of_ble_eq_true rfl) ?_
  intro pg ev s mt args below meth cd R A Q hR X hin exit H locs hw ls hl
  subst hR
  have hl : lv_has ls 9 [(0, .ref hc), (1, .ref h0), (2, .ref ha), (3, .int (zI (((xs.length : Nat) : Int)))), (4, .int (zI ((k : Nat) : Int)))] := hl
  have hv1 := hv.1
  have hl12 := lowN_le xs.length
  refine lv_iload_n X.x X.b dX7_encode_0 rfl (lv_at hl 3 rfl) ?_
  refine cv_i (c1 := 0) (s1 := 0) X hw [] [0, 1, 2, 3] (wr := [(hc, .inr (5, [])), (h0, .inr (0, [.ref hb, .int (zI 0), .int (ta)])), (hb, .inl (dA 0, 400, .inl f)), (ha, .inl (dA 1, 24, .inl g))]) (va_runS (As := [.int (zI (((xs.length : Nat) : Int)))]) (rest := []) X.fix (m_low l hst D dA xs.length (by omega) _) (va_cwS 1 X.t (lw_S q433 q434 q43 q435) rfl rfl rfl (by decide +kernel) (pc_rmle (by decide) (by decide))) (pc_preS X hw [] rfl rfl) rfl rfl hl.1 rfl (lv_room (Nat.le_of_ble_eq_true rfl)) dX7_encode_1 ⟨Nat.le_of_ble_eq_true rfl, Nat.le_of_ble_eq_true rfl⟩) rfl rfl rfl rfl (fun _ _ _ => pc_c00) (fun r_1 u_2 H locs hq hw => ?_)
  have hw : pc_S D A s.heap [(hc, .inr (5, [])), (h0, .inr (0, [.ref hb, .int (zI 0), .int (ta)])), (hb, .inl (dA 0, 400, .inl f)), (ha, .inl (dA 1, 24, .inl g))] H locs := hw
  subst hq
  refine lv_istore (lv' := [(5, .int (zI (((lowN xs.length : Nat) : Int)))), (0, .ref hc), (1, .ref h0), (2, .ref ha), (3, .int (zI (((xs.length : Nat) : Int)))), (4, .int (zI ((k : Nat) : Int)))]) X.x X.b dX7_encode_4 hl (by decide) rfl (fun ls hl => ?_)
  refine z_iconst X dX7_encode_6 ?_
  refine lv_istore (lv' := [(6, .int (zI 0)), (5, .int (zI (((lowN xs.length : Nat) : Int)))), (0, .ref hc), (1, .ref h0), (2, .ref ha), (3, .int (zI (((xs.length : Nat) : Int)))), (4, .int (zI ((k : Nat) : Int)))]) X.x X.b dX7_encode_7 hl (by decide) rfl (fun ls hl => ?_)
  refine z_iconst X dX7_encode_9 ?_
  refine lv_istore (lv' := [(7, .int (zI 0)), (6, .int (zI 0)), (5, .int (zI (((lowN xs.length : Nat) : Int)))), (0, .ref hc), (1, .ref h0), (2, .ref ha), (3, .int (zI (((xs.length : Nat) : Int)))), (4, .int (zI ((k : Nat) : Int)))]) X.x X.b dX7_encode_10 hl (by decide) rfl (fun ls hl => ?_)
  have B12 : ∀ (NN : Nat) (i : Nat) (f : Nat → Int32) (hi : i ≤ xs.length) (hf : RowIs (encS1 xs (lowN xs.length) i) f) (hNN : xs.length - i < NN) (H : Heap) (locs : List Loc), pc_S D A s.heap [(hc, .inr (5, [])), (h0, .inr (0, [.ref hb, .int (zI ((((encS1 xs (lowN xs.length) i).length : Nat) : Int))), .int (ta)])), (hb, .inl (dA 0, 400, .inl f)), (ha, .inl (dA 1, 24, .inl g))] H locs → ∀ ls : Array Slot, lv_has ls 9 [(0, .ref hc), (1, .ref h0), (2, .ref ha), (3, .int (zI (((xs.length : Nat) : Int)))), (5, .int (zI (((lowN xs.length : Nat) : Int)))), (6, .int (zI 0)), (7, .int (zI (((i : Nat) : Int))))] → W pg l ev (pc_rm 3 0 0) s mt args below meth cd H locs 0 0 Q (F0 mt 12 ls []) := by
    intro NN
    induction NN with
    | zero => intro i f hi hf hNN; exact absurd hNN (Nat.not_lt_zero _)
    | succ NN ih12 =>
      intro i f hi hf hNN H locs hw ls hl
      have hln := encS1_len xs (lowN xs.length) i
      have hml : i * (lowN xs.length) ≤ 24 * 12 := Nat.mul_le_mul (by omega) hl12
      refine lv_iload X.x X.b dX7_encode_12 (lv_at hl 6 rfl) ?_
      refine lv_iload_n X.x X.b dX7_encode_14 rfl (lv_at hl 3 rfl) ?_
      refine z_icmp_ge (tgt := 34) X dX7_encode_15 (by decide) (by omega) (by omega) (fun c_3 => ?_) (fun c_3 => ?_)
      · skip
        have hi9 : i = xs.length := by omega
        rw [hi9] at hw hf hln
        refine z_iconst X dX7_encode_34 ?_
        refine lv_istore (lv' := [(7, .int (zI 0)), (0, .ref hc), (1, .ref h0), (2, .ref ha), (3, .int (zI (((xs.length : Nat) : Int)))), (5, .int (zI (((lowN xs.length : Nat) : Int)))), (6, .int (zI 0))]) X.x X.b dX7_encode_35 hl (by decide) rfl (fun ls hl => ?_)
        have B37 : ∀ (NN : Nat) (i : Nat) (f : Nat → Int32) (hi : i ≤ xs.length) (hf : RowIs (encS1 xs (lowN xs.length) xs.length ++ encS2 xs (lowN xs.length) i) f) (hNN : xs.length - i < NN) (H : Heap) (locs : List Loc), pc_S D A s.heap [(hc, .inr (5, [])), (h0, .inr (0, [.ref hb, .int (zI ((((encS1 xs (lowN xs.length) xs.length ++ encS2 xs (lowN xs.length) i).length : Nat) : Int))), .int (ta)])), (hb, .inl (dA 0, 400, .inl f)), (ha, .inl (dA 1, 24, .inl g))] H locs → ∀ ls : Array Slot, lv_has ls 9 [(0, .ref hc), (1, .ref h0), (2, .ref ha), (3, .int (zI (((xs.length : Nat) : Int)))), (5, .int (zI (((lowN xs.length : Nat) : Int)))), (6, .int (zI (((preS xs (lowN xs.length) i : Nat) : Int)))), (7, .int (zI (((i : Nat) : Int))))] → W pg l ev (pc_rm 3 0 0) s mt args below meth cd H locs 0 0 Q (F0 mt 37 ls []) := by
          intro NN
          induction NN with
          | zero => intro i f hi hf hNN; exact absurd hNN (Nat.not_lt_zero _)
          | succ NN ih37 =>
            intro i f hi hf hNN H locs hw ls hl
            have hl1 := encS1_len xs (lowN xs.length) xs.length
            have hm1 : xs.length * (lowN xs.length) ≤ 24 * 12 := Nat.mul_le_mul (by omega) hl12
            have hl2 := encS2_len hv (lowN xs.length) i hi
            refine lv_iload X.x X.b dX7_encode_37 (lv_at hl 6 rfl) ?_
            refine lv_iload_n X.x X.b dX7_encode_39 rfl (lv_at hl 3 rfl) ?_
            refine z_icmp_ge (tgt := 78) X dX7_encode_40 (by decide) (by omega) (by omega) (fun c_4 => ?_) (fun c_4 => ?_)
            · skip
              have hi9 : i = xs.length := by omega
              rw [hi9] at hw hf
              exact exit f dX7_encode_78 hf hw (Nat.zero_le _) (Nat.zero_le _)
            · skip
              refine lv_aload_n X.x X.b dX7_encode_43 rfl (lv_at hl 2 rfl) ?_
              refine lv_iload X.x X.b dX7_encode_44 (lv_at hl 6 rfl) ?_
              refine z_sald X hw 3 i rfl (by decide) (by omega) (v := zI ((xs.getD i 0 : Nat) : Int)) (hg _ (by omega)) dX7_encode_46 ?_
              have hx9 := hv.2.1 i (by omega)
              have hu9 : upS xs (lowN xs.length) i ≤ xs.getD i 0 := Nat.div_le_self _ _
              have hp9 := preS_le hv (l := (lowN xs.length)) (i := i) (by omega)
              refine lv_iload X.x X.b dX7_encode_47 (lv_at hl 4 rfl) ?_
              refine lv_ishr X.x X.b dX7_encode_49 ?_
              refine top_i (y := zI ((upS xs (lowN xs.length) i : Nat) : Int)) (zI_shr (n := xs.getD i 0) (by omega) (k := (lowN xs.length)) (by omega)) ?_
              refine lv_istore (lv' := [(8, .int (zI (((upS xs (lowN xs.length) i : Nat) : Int)))), (0, .ref hc), (1, .ref h0), (2, .ref ha), (3, .int (zI (((xs.length : Nat) : Int)))), (5, .int (zI (((lowN xs.length : Nat) : Int)))), (6, .int (zI (((preS xs (lowN xs.length) i : Nat) : Int)))), (7, .int (zI (((i : Nat) : Int))))]) X.x X.b dX7_encode_50 hl (by decide) rfl (fun ls hl => ?_)
              refine lv_aload_n X.x X.b dX7_encode_52 rfl (lv_at hl 2 rfl) ?_
              refine z_iconst X dX7_encode_53 ?_
              refine lv_iload X.x X.b dX7_encode_54 (lv_at hl 0 rfl) ?_
              refine lv_iload X.x X.b dX7_encode_56 (lv_at hl 6 rfl) ?_
              refine z_isub X dX7_encode_58 ?_
              refine top_i (y := zI ((upS xs (lowN xs.length) i - preS xs (lowN xs.length) i : Nat) : Int)) (congrArg zI (by omega)) ?_
              refine cv_v (c1 := 0) (s1 := 0) X hw [1, 2] [0, 3] (wr := [(hc, .inr (5, [])), (ha, .inl (dA 1, 24, .inl g))]) (va_runV (As := [.int (zI 0), .int (zI (((upS xs (lowN xs.length) i - preS xs (lowN xs.length) i : Nat) : Int)))]) (rest := []) X.fix (m_Row_put l hst D dA h0 hb (ta) (encS1 xs (lowN xs.length) xs.length ++ encS2 xs (lowN xs.length) i) (zI 0) (upS xs (lowN xs.length) i - preS xs (lowN xs.length) i) f hf (by simp only [List.length_append, pb_len]; omega) _) (cwV 2 X.t (lw_V q436 q383 q384 q46 q385) rfl rfl rfl (by decide +kernel) (pc_rmle (by decide) (by decide))) (pc_preV X hw [1, 2] rfl rfl 0 1 rfl rfl rfl) rfl rfl hl.1 rfl (lv_room (Nat.le_of_ble_eq_true rfl)) dX7_encode_59 ⟨Nat.le_of_ble_eq_true rfl, Nat.le_of_ble_eq_true rfl⟩) rfl rfl rfl rfl (fun _ _ => pc_c00) (fun u_6 H locs hq hw => ?_)
              have hw : pc_S D A s.heap [(hc, .inr (5, [])), (ha, .inl (dA 1, 24, .inl g)), (h0, .inr (0, [.ref hb, .int (zI (((((encS1 xs (lowN xs.length) xs.length ++ encS2 xs (lowN xs.length) i) ++ pb (zI 0) (upS xs (lowN xs.length) i - preS xs (lowN xs.length) i)).length : Nat) : Int))), .int (ta)])), (hb, .inl (dA 0, 400, .inl u_6))] H locs := hw
              have hu_6 := hq
              refine lv_aload_n X.x X.b dX7_encode_62 rfl (lv_at hl 2 rfl) ?_
              refine z_iconst X dX7_encode_63 ?_
              refine z_iconst X dX7_encode_64 ?_
              refine cv_v (c1 := 0) (s1 := 0) X hw [2, 3] [0, 1] (wr := [(hc, .inr (5, [])), (ha, .inl (dA 1, 24, .inl g))]) (va_runV (As := [.int (zI 1), .int (zI 1)]) (rest := []) X.fix (m_Row_put l hst D dA h0 hb (ta) ((encS1 xs (lowN xs.length) xs.length ++ encS2 xs (lowN xs.length) i) ++ pb (zI 0) (upS xs (lowN xs.length) i - preS xs (lowN xs.length) i)) (zI 1) 1 u_6 hu_6 (by simp only [List.length_append, pb_len]; omega) _) (cwV 2 X.t (lw_V q436 q383 q384 q46 q385) rfl rfl rfl (by decide +kernel) (pc_rmle (by decide) (by decide))) (pc_preV X hw [2, 3] rfl rfl 0 2 rfl rfl rfl) rfl rfl hl.1 rfl (lv_room (Nat.le_of_ble_eq_true rfl)) dX7_encode_65 ⟨Nat.le_of_ble_eq_true rfl, Nat.le_of_ble_eq_true rfl⟩) rfl rfl rfl rfl (fun _ _ => pc_c00) (fun u_8 H locs hq hw => ?_)
              have hw : pc_S D A s.heap [(hc, .inr (5, [])), (ha, .inl (dA 1, 24, .inl g)), (h0, .inr (0, [.ref hb, .int (zI ((((((encS1 xs (lowN xs.length) xs.length ++ encS2 xs (lowN xs.length) i) ++ pb (zI 0) (upS xs (lowN xs.length) i - preS xs (lowN xs.length) i)) ++ pb (zI 1) 1).length : Nat) : Int))), .int (ta)])), (hb, .inl (dA 0, 400, .inl u_8))] H locs := hw
              have hu_8 := hq
              refine lv_iload X.x X.b dX7_encode_68 (lv_at hl 0 rfl) ?_
              refine lv_istore (lv' := [(6, .int (zI (((upS xs (lowN xs.length) i : Nat) : Int)))), (8, .int (zI (((upS xs (lowN xs.length) i : Nat) : Int)))), (0, .ref hc), (1, .ref h0), (2, .ref ha), (3, .int (zI (((xs.length : Nat) : Int)))), (5, .int (zI (((lowN xs.length : Nat) : Int)))), (7, .int (zI (((i : Nat) : Int))))]) X.x X.b dX7_encode_70 hl (by decide) rfl (fun ls hl => ?_)
              refine z_iinc (lv' := [(7, .int (zI (((i : Nat) : Int) + 1))), (6, .int (zI (((upS xs (lowN xs.length) i : Nat) : Int)))), (8, .int (zI (((upS xs (lowN xs.length) i : Nat) : Int)))), (0, .ref hc), (1, .ref h0), (2, .ref ha), (3, .int (zI (((xs.length : Nat) : Int)))), (5, .int (zI (((lowN xs.length : Nat) : Int))))]) X dX7_encode_72 hl (k0 := 7) rfl (by decide) rfl (fun ls hl => ?_)
              have hl : lv_has ls 9 [(7, .int (zI (((i + 1 : Nat) : Int)))), (6, .int (zI (((upS xs (lowN xs.length) i : Nat) : Int)))), (8, .int (zI (((upS xs (lowN xs.length) i : Nat) : Int)))), (0, .ref hc), (1, .ref h0), (2, .ref ha), (3, .int (zI (((xs.length : Nat) : Int)))), (5, .int (zI (((lowN xs.length : Nat) : Int))))] := by rw [show (((i + 1 : Nat) : Int) : Int) = ((i : Nat) : Int) + 1 from by omega]; exact hl
              refine lv_goto (tgt := 37) X.x X.b dX7_encode_75 (by decide) ?_
              have e9 : ((encS1 xs (lowN xs.length) xs.length ++ encS2 xs (lowN xs.length) i) ++ pb (zI 0) (upS xs (lowN xs.length) i - preS xs (lowN xs.length) i)) ++ pb (zI 1) 1 = encS1 xs (lowN xs.length) xs.length ++ encS2 xs (lowN xs.length) (i + 1) := by rw [encS2_succ]; simp only [List.append_assoc]
              rw [e9] at hw hu_8
              have hl : lv_has ls 9 [(7, .int (zI (((i + 1 : Nat) : Int)))), (6, .int (zI (((preS xs (lowN xs.length) (i + 1) : Nat) : Int)))), (8, .int (zI (((upS xs (lowN xs.length) i : Nat) : Int)))), (0, .ref hc), (1, .ref h0), (2, .ref ha), (3, .int (zI (((xs.length : Nat) : Int)))), (5, .int (zI (((lowN xs.length : Nat) : Int))))] := by rw [show (((preS xs (lowN xs.length) (i + 1) : Nat) : Int) : Int) = ((upS xs (lowN xs.length) i : Nat) : Int) from by simp [preS]]; exact hl
              exact ih37  (i + 1) u_8 (by omega) hu_8 (by omega) H locs (hw.sub [0, 2, 3, 1] rfl rfl) ls (lv_sub hl [3, 4, 5, 6, 7, 1, 0] rfl)
        have e9 : encS1 xs (lowN xs.length) xs.length = encS1 xs (lowN xs.length) xs.length ++ encS2 xs (lowN xs.length) 0 := by simp [encS2]
        rw [e9] at hw hf
        exact B37 _ 0 f (Nat.zero_le _) hf (Nat.lt_succ_self _) H locs hw ls (lv_sub hl [1, 2, 3, 4, 5, 6, 0] rfl)
      · skip
        refine lv_aload_n X.x X.b dX7_encode_18 rfl (lv_at hl 1 rfl) ?_
        refine lv_aload_n X.x X.b dX7_encode_19 rfl (lv_at hl 2 rfl) ?_
        refine lv_iload X.x X.b dX7_encode_20 (lv_at hl 6 rfl) ?_
        refine z_sald X hw 3 i rfl (by decide) (by omega) (v := zI ((xs.getD i 0 : Nat) : Int)) (hg _ (by omega)) dX7_encode_22 ?_
        refine lv_iload X.x X.b dX7_encode_23 (lv_at hl 4 rfl) ?_
        refine cv_v (c1 := 0) (s1 := 0) X hw [1, 2] [0, 3] (wr := [(hc, .inr (5, [])), (ha, .inl (dA 1, 24, .inl g))]) (va_runV (As := [.int (zI (((xs.getD i 0 : Nat) : Int))), .int (zI (((lowN xs.length : Nat) : Int)))]) (rest := []) X.fix (m_Row_put l hst D dA h0 hb (ta) (encS1 xs (lowN xs.length) i) (zI ((xs.getD i 0 : Nat) : Int)) (lowN xs.length) f hf (by first | omega | (simp only [List.length_append, pb_len, List.length_replicate]; omega)) _) (cwV 2 X.t (lw_V q436 q383 q384 q46 q385) rfl rfl rfl (by decide +kernel) (pc_rmle (by decide) (by decide))) (pc_preV X hw [1, 2] rfl rfl 0 1 rfl rfl rfl) rfl rfl hl.1 rfl (lv_room (Nat.le_of_ble_eq_true rfl)) dX7_encode_25 ⟨Nat.le_of_ble_eq_true rfl, Nat.le_of_ble_eq_true rfl⟩) rfl rfl rfl rfl (fun _ _ => pc_c00) (fun u_10 H locs hq hw => ?_)
        have hw : pc_S D A s.heap [(hc, .inr (5, [])), (ha, .inl (dA 1, 24, .inl g)), (h0, .inr (0, [.ref hb, .int (zI (((((encS1 xs (lowN xs.length) i) ++ pb (zI ((xs.getD i 0 : Nat) : Int)) (lowN xs.length)).length : Nat) : Int))), .int (ta)])), (hb, .inl (dA 0, 400, .inl u_10))] H locs := hw
        have hu_10 := hq
        refine z_iinc (lv' := [(7, .int (zI (((i : Nat) : Int) + 1))), (0, .ref hc), (1, .ref h0), (2, .ref ha), (3, .int (zI (((xs.length : Nat) : Int)))), (5, .int (zI (((lowN xs.length : Nat) : Int)))), (6, .int (zI 0))]) X dX7_encode_28 hl (k0 := 6) rfl (by decide) rfl (fun ls hl => ?_)
        have hl : lv_has ls 9 [(7, .int (zI (((i + 1 : Nat) : Int)))), (0, .ref hc), (1, .ref h0), (2, .ref ha), (3, .int (zI (((xs.length : Nat) : Int)))), (5, .int (zI (((lowN xs.length : Nat) : Int)))), (6, .int (zI 0))] := by rw [show (((i + 1 : Nat) : Int) : Int) = ((i : Nat) : Int) + 1 from by omega]; exact hl
        refine lv_goto (tgt := 12) X.x X.b dX7_encode_31 (by decide) ?_
        have e9 : (encS1 xs (lowN xs.length) i) ++ pb (zI ((xs.getD i 0 : Nat) : Int)) (lowN xs.length) = encS1 xs (lowN xs.length) (i + 1) := (encS1_succ _ _ _).symm
        rw [e9] at hw hu_10
        exact ih12  (i + 1) u_10 (by omega) hu_10 (by omega) H locs (hw.sub [0, 2, 3, 1] rfl rfl) ls (lv_sub hl [1, 2, 3, 4, 5, 6, 0] rfl)
  exact B12 _ 0 f (Nat.zero_le _) (RowIs.nil f) (Nat.lt_succ_self _) H locs hw ls (lv_sub hl [3, 4, 5, 6, 2, 1, 0] rfl)
set_option maxHeartbeats 4000000 in
/-- decode, PostingCodes$Split -/
theorem m_dec_4 (l : Launch) (hst : l.stackTraces = false) (D : va_G) (dA : Nat → ClassId) (hc h0 hb ha : Nat) (bs : List Bool) (k n : Nat) (f g : Nat → Int32) (hf : RowIs bs f) (h4 : bs.length ≤ 400) (hk : k ≤ 7) (hn : n ≤ 24) (t : Bool) (ht : t = (decS bs n n).isNone) : px_V l yX7_decode (ws_ yX7_decode cX7_decode 8 none) (pc_rm 4 (cond t 1 0) (cond t 6 0)) D dA [.ref hc, .ref h0, .ref ha, .int (zI (((n : Nat) : Int))), .int (zI (((k : Nat) : Int)))] [(hc, .inr (5, [])), (h0, .inr (0, [.ref hb, .int (zI (((bs.length : Nat) : Int))), .int (zI 0)])), (hb, .inl (dA 0, 400, .inl f)), (ha, .inl (dA 1, 24, .inl g))] (fun u : (Nat → Int32) × Int32 => t = false ∧ ∃ ys q, decS bs n n = some (ys, q) ∧ ArrIs ys u.1) (fun u : (Nat → Int32) × Int32 => [(hc, .inr (5, [])), (h0, .inr (0, [.ref hb, .int (zI (((bs.length : Nat) : Int))), .int (u.2)])), (hb, .inl (dA 0, 400, .inl f)), (ha, .inl (dA 1, 24, .inl u.1))]) (fun E (_ : (Nat → Int32) × Int32) => E = xIAE ∧ t = true) (fun u : (Nat → Int32) × Int32 => [(hc, .inr (5, [])), (h0, .inr (0, [.ref hb, .int (zI (((bs.length : Nat) : Int))), .int (u.2)])), (hb, .inl (dA 0, 400, .inl f)), (ha, .inl (dA 1, 24, .inl u.1))]) := by
  refine sx_v hst (by decide) RX7 rfl (Nat.le_of_ble_eq_true rfl) ?_
  intro pg ev s mt args below meth cd R A Q hR X exit hout hthr H locs hw ls hl
  subst hR
  have hl : lv_has ls 8 [(0, .ref hc), (1, .ref h0), (2, .ref ha), (3, .int (zI (((n : Nat) : Int)))), (4, .int (zI (((k : Nat) : Int))))] := hl
  have hl12 := lowN_le n
  refine lv_iload_n X.x X.b dX7_decode_0 rfl (lv_at hl 3 rfl) ?_
  refine cv_i (c1 := 0) (s1 := 0) X hw [] [0, 1, 2, 3] (wr := [(hc, .inr (5, [])), (h0, .inr (0, [.ref hb, .int (zI (((bs.length : Nat) : Int))), .int (zI 0)])), (hb, .inl (dA 0, 400, .inl f)), (ha, .inl (dA 1, 24, .inl g))]) (va_runS (As := [.int (zI (((n : Nat) : Int)))]) (rest := []) X.fix (m_low l hst D dA n (by omega) _) (va_cwS 1 X.t (lw_S q433 q434 q43 q435) rfl rfl rfl (by decide +kernel) (pc_rmle (by decide) (by decide))) (pc_preS X hw [] rfl rfl) rfl rfl hl.1 rfl (lv_room (Nat.le_of_ble_eq_true rfl)) dX7_decode_1 ⟨Nat.le_of_ble_eq_true rfl, Nat.le_of_ble_eq_true rfl⟩) rfl rfl rfl rfl (fun _ _ _ => pc_c00) (fun r_1 u_2 H locs hq hw => ?_)
  have hw : pc_S D A s.heap [(hc, .inr (5, [])), (h0, .inr (0, [.ref hb, .int (zI (((bs.length : Nat) : Int))), .int (zI 0)])), (hb, .inl (dA 0, 400, .inl f)), (ha, .inl (dA 1, 24, .inl g))] H locs := hw
  subst hq
  refine lv_istore (lv' := [(5, .int (zI (((lowN n : Nat) : Int)))), (0, .ref hc), (1, .ref h0), (2, .ref ha), (3, .int (zI (((n : Nat) : Int)))), (4, .int (zI (((k : Nat) : Int))))]) X.x X.b dX7_decode_4 hl (by decide) rfl (fun ls hl => ?_)
  refine z_iconst X dX7_decode_6 ?_
  refine lv_istore (lv' := [(6, .int (zI 0)), (5, .int (zI (((lowN n : Nat) : Int)))), (0, .ref hc), (1, .ref h0), (2, .ref ha), (3, .int (zI (((n : Nat) : Int)))), (4, .int (zI (((k : Nat) : Int))))]) X.x X.b dX7_decode_7 hl (by decide) rfl (fun ls hl => ?_)
  refine z_iconst X dX7_decode_9 ?_
  refine lv_istore (lv' := [(7, .int (zI 0)), (6, .int (zI 0)), (5, .int (zI (((lowN n : Nat) : Int)))), (0, .ref hc), (1, .ref h0), (2, .ref ha), (3, .int (zI (((n : Nat) : Int)))), (4, .int (zI (((k : Nat) : Int))))]) X.x X.b dX7_decode_10 hl (by decide) rfl (fun ls hl => ?_)
  have B12 : ∀ (NN : Nat) (i : Nat) (g : Nat → Int32) (hi : i ≤ n) (hfa : ∀ j, j < i → g j = zI ((rdN bs (j * (lowN n)) (lowN n) : Nat) : Int)) (hp : i * (lowN n) ≤ bs.length) (hNN : n - i < NN) (H : Heap) (locs : List Loc), pc_S D A s.heap [(hc, .inr (5, [])), (h0, .inr (0, [.ref hb, .int (zI (((bs.length : Nat) : Int))), .int (zI (((i * (lowN n) : Nat) : Int)))])), (hb, .inl (dA 0, 400, .inl f)), (ha, .inl (dA 1, 24, .inl g))] H locs → ∀ ls : Array Slot, lv_has ls 8 [(0, .ref hc), (1, .ref h0), (2, .ref ha), (3, .int (zI (((n : Nat) : Int)))), (5, .int (zI (((lowN n : Nat) : Int)))), (6, .int (zI 0)), (7, .int (zI (((i : Nat) : Int))))] → W pg l ev (pc_rm 4 (cond t 1 0) (cond t 6 0)) s mt args below meth cd H locs 0 0 Q (F0 mt 12 ls []) := by
    intro NN
    induction NN with
    | zero => intro i g hi hfa hp hNN; exact absurd hNN (Nat.not_lt_zero _)
    | succ NN ih12 =>
      intro i g hi hfa hp hNN H locs hw ls hl
      have hsm : (i + 1) * (lowN n) = i * (lowN n) + (lowN n) := Nat.succ_mul _ _
      refine lv_iload X.x X.b dX7_decode_12 (lv_at hl 6 rfl) ?_
      refine lv_iload_n X.x X.b dX7_decode_14 rfl (lv_at hl 3 rfl) ?_
      refine z_icmp_ge (tgt := 35) X dX7_decode_15 (by decide) (by omega) (by omega) (fun c_3 => ?_) (fun c_3 => ?_)
      · skip
        have hi9 : i = n := by omega
        rw [hi9] at hw hfa hp
        have hdS : ∀ j, decS bs n j = decS2 bs (lowN n) n j := fun j => if_neg (by omega)
        refine z_iconst X dX7_decode_35 ?_
        refine lv_istore (lv' := [(7, .int (zI 0)), (0, .ref hc), (1, .ref h0), (2, .ref ha), (3, .int (zI (((n : Nat) : Int)))), (5, .int (zI (((lowN n : Nat) : Int)))), (6, .int (zI 0))]) X.x X.b dX7_decode_36 hl (by decide) rfl (fun ls hl => ?_)
        have B38 : ∀ (NN : Nat) (ys : List Nat) (u : Nat) (p : Nat) (g : Nat → Int32) (hd : decS2 bs (lowN n) n ys.length = some (ys, u, p)) (hfs : ArrS bs (lowN n) n ys g) (hp : p ≤ bs.length) (hyn : ys.length ≤ n) (hu : u ≤ 4095) (hNN : n - ys.length < NN) (H : Heap) (locs : List Loc), pc_S D A s.heap [(hc, .inr (5, [])), (h0, .inr (0, [.ref hb, .int (zI (((bs.length : Nat) : Int))), .int (zI (((p : Nat) : Int)))])), (hb, .inl (dA 0, 400, .inl f)), (ha, .inl (dA 1, 24, .inl g))] H locs → ∀ ls : Array Slot, lv_has ls 8 [(0, .ref hc), (1, .ref h0), (2, .ref ha), (3, .int (zI (((n : Nat) : Int)))), (5, .int (zI (((lowN n : Nat) : Int)))), (6, .int (zI (((u : Nat) : Int)))), (7, .int (zI (((ys.length : Nat) : Int))))] → W pg l ev (pc_rm 4 (cond t 1 0) (cond t 6 0)) s mt args below meth cd H locs 0 0 Q (F0 mt 38 ls []) := by
          intro NN
          induction NN with
          | zero => intro ys u p g hd hfs hp hyn hu hNN; exact absurd hNN (Nat.not_lt_zero _)
          | succ NN ih38 =>
            intro ys u p g hd hfs hp hyn hu hNN H locs hw ls hl
            refine lv_iload X.x X.b dX7_decode_38 (lv_at hl 6 rfl) ?_
            refine lv_iload_n X.x X.b dX7_decode_40 rfl (lv_at hl 3 rfl) ?_
            refine z_icmp_ge (tgt := 96) X dX7_decode_41 (by decide) (by omega) (by omega) (fun c_4 => ?_) (fun c_4 => ?_)
            · skip
              have hyn9 : ys.length = n := by omega
              rw [hyn9] at hd
              exact exit (g, zI ((p : Nat) : Int)) dX7_decode_96 ⟨by rw [ht, hdS, hd]; rfl, ys, _, by rw [hdS, hd], hfs.done (by omega)⟩ hw (Nat.zero_le _) (Nat.zero_le _)
            · skip
              refine lv_iload X.x X.b dX7_decode_44 (lv_at hl 5 rfl) ?_
              refine lv_aload_n X.x X.b dX7_decode_46 rfl (lv_at hl 1 rfl) ?_
              refine z_iconst X dX7_decode_47 ?_
              refine z_sipush X dX7_decode_48 (by decide) ?_
              obtain ⟨t_5, ht_5⟩ : ∃ q : Bool, q = (!decide (p + rl false (bs.drop p) < bs.length ∧ rl false (bs.drop p) ≤ 4095)) := ⟨_, rfl⟩
              refine cx_i (c1 := 0) (s1 := 0) X hw [1, 2] [0, 3] (wr := [(hc, .inr (5, [])), (ha, .inl (dA 1, 24, .inl g))]) (vx_runV (As := [.int (zI 0), .int (zI 4095)]) (rest := [.int (zI (((u : Nat) : Int)))]) X.fix (m_Row_run l hst D dA h0 hb p bs false 4095 f hf (by omega) (by omega) (by omega) t_5 ht_5 _) (cwV 2 X.t (lw_V q582 q540 q541 q46 q542) rfl rfl rfl (by decide +kernel) (pc_rmle (by decide) (by decide))) (pc_preV X hw [1, 2] rfl rfl 0 1 rfl rfl rfl) rfl rfl hl.1 rfl (lv_room (Nat.le_of_ble_eq_true rfl)) dX7_decode_51 (pc_c1 (fun h => by rw [ht_5] at h; rw [ht, hdS, decS2_mono (decS2_no hd (by simp at h; omega)) (by omega)]; rfl))) rfl rfl rfl rfl (fun E ce q9 ux_8 H locs hq hw h1 h2 h3 => ?_) (fun r u hq => pc_c0 hq.1) (fun r_6 u_7 H locs hq hw => ?_)
              · skip
                have hw : pc_S D A s.heap [(hc, .inr (5, [])), (ha, .inl (dA 1, 24, .inl g)), (h0, .inr (0, [.ref hb, .int (zI (((bs.length : Nat) : Int))), .int (ux_8)])), (hb, .inl (dA 0, 400, .inl f))] H locs := hw
                have hw : pc_S D A s.heap [(hc, .inr (5, [])), (h0, .inr (0, [.ref hb, .int (zI (((bs.length : Nat) : Int))), .int (ux_8)])), (hb, .inl (dA 0, 400, .inl f)), (ha, .inl (dA 1, 24, .inl g))] H locs := hw.sub [0, 2, 3, 1] rfl rfl
                exact hout (g, ux_8) h1 h2 h3 (⟨hq.1, (fun h => by rw [ht_5] at h; rw [ht, hdS, decS2_mono (decS2_no hd (by simp at h; omega)) (by omega)]; rfl) hq.2⟩) hw (pc_c1 (fun h => by rw [ht_5] at h; rw [ht, hdS, decS2_mono (decS2_no hd (by simp at h; omega)) (by omega)]; rfl)).1 (pc_c1 (fun h => by rw [ht_5] at h; rw [ht, hdS, decS2_mono (decS2_no hd (by simp at h; omega)) (by omega)]; rfl)).2
              · skip
                have hw : pc_S D A s.heap [(hc, .inr (5, [])), (ha, .inl (dA 1, 24, .inl g)), (h0, .inr (0, [.ref hb, .int (zI (((bs.length : Nat) : Int))), .int (zI (((p + rl false (bs.drop p) + 1 : Nat) : Int)))])), (hb, .inl (dA 0, 400, .inl f))] H locs := hw
                obtain ⟨hq, rfl⟩ := hq
                have hq : p + rl false (bs.drop p) < bs.length ∧ rl false (bs.drop p) ≤ 4095 := by rw [ht_5] at hq; simpa using hq
                have hqr := hq
                refine z_iadd X dX7_decode_54 ?_
                refine top_i (y := zI ((u + (rl false (bs.drop p)) : Nat) : Int)) (congrArg zI (by omega)) ?_
                refine lv_istore (lv' := [(6, .int (zI (((u + (rl false (bs.drop p)) : Nat) : Int)))), (0, .ref hc), (1, .ref h0), (2, .ref ha), (3, .int (zI (((n : Nat) : Int)))), (5, .int (zI (((lowN n : Nat) : Int)))), (7, .int (zI (((ys.length : Nat) : Int))))]) X.x X.b dX7_decode_55 hl (by decide) rfl (fun ls hl => ?_)
                refine lv_iload X.x X.b dX7_decode_57 (lv_at hl 0 rfl) ?_
                refine z_sipush X dX7_decode_59 (by decide) ?_
                refine lv_iload X.x X.b dX7_decode_62 (lv_at hl 5 rfl) ?_
                refine lv_ishr X.x X.b dX7_decode_64 ?_
                refine top_i (y := zI ((4095 / 2 ^ (lowN n) : Nat) : Int)) (zI_shr (n := 4095) (by omega) (k := (lowN n)) (by omega)) ?_
                obtain ⟨q_9, hq_9⟩ : ∃ q : Nat, q = 4095 / 2 ^ (lowN n) := ⟨_, rfl⟩
                refine top_i (y := zI ((q_9 : Nat) : Int)) (by rw [hq_9]) ?_
                have hq8 : q_9 ≤ 4095 := by rw [hq_9]; exact Nat.div_le_self _ _
                refine z_icmp_gt (tgt := 72) X dX7_decode_65 (by decide) (by omega) (by omega) (fun c_10 => ?_) (fun c_10 => ?_)
                · skip
                  have hno : decS2 bs (lowN n) n n = none := decS2_mono (decS2_no hd (by rw [← hq_9]; omega)) (by omega)
                  refine z_iconst X dX7_decode_72 ?_
                  refine cx_v (c1 := 0) (s1 := 0) X hw [] [0, 1, 2, 3] (wr := [(hc, .inr (5, [])), (ha, .inl (dA 1, 24, .inl g)), (h0, .inr (0, [.ref hb, .int (zI (((bs.length : Nat) : Int))), .int (zI (((p + rl false (bs.drop p) + 1 : Nat) : Int)))])), (hb, .inl (dA 0, 400, .inl f))]) (vx_runSN (As := [.int (zI 0)]) (rest := []) X.fix (m_allow_f l hst D dA _) ⟨va_cnB 1 X.t (lw_meth q311) rfl rfl rfl (pc_nl17 X.N) (X.t _ q37) (by decide +kernel) (pc_rmle (by decide) (by decide)), X.t _ q310, trivial⟩ (pc_preS X hw [] rfl rfl) rfl rfl hl.1 rfl (lv_room (Nat.le_of_ble_eq_true rfl)) dX7_decode_73 (pc_c2 (show t = true from by rw [ht, hdS, hno]; rfl))) rfl rfl rfl rfl (fun E ce q9 ux_13 H locs hq hw h1 h2 h3 => ?_) (fun u hq => hq.elim) (fun u_12 H locs hq hw => ?_)
                  · skip
                    have hw : pc_S D A s.heap [(hc, .inr (5, [])), (ha, .inl (dA 1, 24, .inl g)), (h0, .inr (0, [.ref hb, .int (zI (((bs.length : Nat) : Int))), .int (zI (((p + rl false (bs.drop p) + 1 : Nat) : Int)))])), (hb, .inl (dA 0, 400, .inl f))] H locs := hw
                    have hw : pc_S D A s.heap [(hc, .inr (5, [])), (h0, .inr (0, [.ref hb, .int (zI (((bs.length : Nat) : Int))), .int (zI (((p + rl false (bs.drop p) + 1 : Nat) : Int)))])), (hb, .inl (dA 0, 400, .inl f)), (ha, .inl (dA 1, 24, .inl g))] H locs := hw.sub [0, 2, 3, 1] rfl rfl
                    have ht9 : t = true := by rw [ht, hdS, hno]; rfl
                    exact hout (g, zI ((p + rl false (bs.drop p) + 1 : Nat) : Int)) h1 h2 h3 ⟨hq, ht9⟩ hw (pc_c2 ht9).1 (pc_c2 ht9).2
                  · skip
                    have hw : pc_S D A s.heap [(hc, .inr (5, [])), (ha, .inl (dA 1, 24, .inl g)), (h0, .inr (0, [.ref hb, .int (zI (((bs.length : Nat) : Int))), .int (zI (((p + rl false (bs.drop p) + 1 : Nat) : Int)))])), (hb, .inl (dA 0, 400, .inl f))] H locs := hw
                    exact hq.elim
                · skip
                  have hU : u + rl false (bs.drop p) ≤ 4095 / 2 ^ (lowN n) := by rw [← hq_9]; omega
                  have hr9 : rdN bs (ys.length * (lowN n)) (lowN n) < 2 ^ (lowN n) := rdN_lt bs _ (Nat.le_refl _)
                  have hsl := split_le hl12 hr9 hU
                  refine z_iconst X dX7_decode_68 ?_
                  refine lv_goto (tgt := 73) X.x X.b dX7_decode_69 (by decide) ?_
                  refine cv_v (c1 := 0) (s1 := 0) X hw [] [0, 1, 2, 3] (wr := [(hc, .inr (5, [])), (ha, .inl (dA 1, 24, .inl g)), (h0, .inr (0, [.ref hb, .int (zI (((bs.length : Nat) : Int))), .int (zI (((p + rl false (bs.drop p) + 1 : Nat) : Int)))])), (hb, .inl (dA 0, 400, .inl f))]) (va_runSN (As := [.int (zI 1)]) (rest := []) X.fix (m_allow_t l hst D dA _) ⟨va_cnB 1 X.t (lw_meth q311) rfl rfl rfl (pc_nl17 X.N) (X.t _ q37) (by decide +kernel) (pc_rmle (by decide) (by decide)), X.t _ q310, trivial⟩ (pc_preS X hw [] rfl rfl) rfl rfl hl.1 rfl (lv_room (Nat.le_of_ble_eq_true rfl)) dX7_decode_73 ⟨Nat.le_of_ble_eq_true rfl, Nat.le_of_ble_eq_true rfl⟩) rfl rfl rfl rfl (fun _ _ => pc_c00) (fun u_15 H locs hq hw => ?_)
                  have hw : pc_S D A s.heap [(hc, .inr (5, [])), (ha, .inl (dA 1, 24, .inl g)), (h0, .inr (0, [.ref hb, .int (zI (((bs.length : Nat) : Int))), .int (zI (((p + rl false (bs.drop p) + 1 : Nat) : Int)))])), (hb, .inl (dA 0, 400, .inl f))] H locs := hw
                  refine lv_aload_n X.x X.b dX7_decode_76 rfl (lv_at hl 3 rfl) ?_
                  refine lv_iload X.x X.b dX7_decode_77 (lv_at hl 6 rfl) ?_
                  refine lv_dup2_11 X.x X.b dX7_decode_79 rfl rfl ?_
                  refine z_sald X hw 1 ys.length rfl (by decide) (by omega) (v := zI ((rdN bs (ys.length * (lowN n)) (lowN n) : Nat) : Int)) (hfs.cur (by omega)) dX7_decode_80 ?_
                  refine lv_iload X.x X.b dX7_decode_81 (lv_at hl 0 rfl) ?_
                  refine lv_iload X.x X.b dX7_decode_83 (lv_at hl 5 rfl) ?_
                  refine lv_ishl X.x X.b dX7_decode_85 ?_
                  refine top_i (y := zI (((u + rl false (bs.drop p)) * 2 ^ (lowN n) : Nat) : Int)) (zI_shl (n := u + rl false (bs.drop p)) (by omega) (k := (lowN n)) (by omega) (by omega)) ?_
                  refine lv_i2s X.x X.b dX7_decode_86 (zI_short (by omega)) ?_
                  refine lv_ior X.x X.b dX7_decode_87 ?_
                  refine top_i (y := zI ((rdN bs (ys.length * (lowN n)) (lowN n) + (u + rl false (bs.drop p)) * 2 ^ (lowN n) : Nat) : Int)) ((zI_or (n := rdN bs (ys.length * (lowN n)) (lowN n)) (by omega) (m := (u + rl false (bs.drop p)) * 2 ^ (lowN n)) (by omega)).trans (congrArg (fun q : Nat => zI (q : Int)) (or_shift hr9 rfl))) ?_
                  refine lv_i2s X.x X.b dX7_decode_88 (zI_short (by omega)) ?_
                  refine z_sast X hw 1 ys.length rfl (by decide) (by omega) (zI_nars (by omega)) dX7_decode_89 (fun H locs hw => ?_)
                  have hw : pc_S D A s.heap [(hc, .inr (5, [])), (ha, .inl (dA 1, 24, .inl (upd g ys.length (zI ((rdN bs (ys.length * (lowN n)) (lowN n) + (u + rl false (bs.drop p)) * 2 ^ (lowN n) : Nat) : Int))))), (h0, .inr (0, [.ref hb, .int (zI (((bs.length : Nat) : Int))), .int (zI (((p + rl false (bs.drop p) + 1 : Nat) : Int)))])), (hb, .inl (dA 0, 400, .inl f))] H locs := hw
                  refine z_iinc (lv' := [(7, .int (zI (((ys.length : Nat) : Int) + 1))), (6, .int (zI (((u + (rl false (bs.drop p)) : Nat) : Int)))), (0, .ref hc), (1, .ref h0), (2, .ref ha), (3, .int (zI (((n : Nat) : Int)))), (5, .int (zI (((lowN n : Nat) : Int))))]) X dX7_decode_90 hl (k0 := 6) rfl (by decide) rfl (fun ls hl => ?_)
                  have hl : lv_has ls 8 [(7, .int (zI (((ys.length + 1 : Nat) : Int)))), (6, .int (zI (((u + (rl false (bs.drop p)) : Nat) : Int)))), (0, .ref hc), (1, .ref h0), (2, .ref ha), (3, .int (zI (((n : Nat) : Int)))), (5, .int (zI (((lowN n : Nat) : Int))))] := by rw [show (((ys.length + 1 : Nat) : Int) : Int) = ((ys.length : Nat) : Int) + 1 from by omega]; exact hl
                  refine lv_goto (tgt := 38) X.x X.b dX7_decode_93 (by decide) ?_
                  have hl9 : (ys ++ [(rdN bs (ys.length * (lowN n)) (lowN n) + (u + rl false (bs.drop p)) * 2 ^ (lowN n))]).length = ys.length + 1 := by simp
                  have hl : lv_has ls 8 [(7, .int (zI ((((ys ++ [(rdN bs (ys.length * (lowN n)) (lowN n) + (u + rl false (bs.drop p)) * 2 ^ (lowN n))]).length : Nat) : Int)))), (6, .int (zI (((u + (rl false (bs.drop p)) : Nat) : Int)))), (0, .ref hc), (1, .ref h0), (2, .ref ha), (3, .int (zI (((n : Nat) : Int)))), (5, .int (zI (((lowN n : Nat) : Int))))] := by rw [show ((((ys ++ [(rdN bs (ys.length * (lowN n)) (lowN n) + (u + rl false (bs.drop p)) * 2 ^ (lowN n))]).length : Nat) : Int) : Int) = ((ys.length + 1 : Nat) : Int) from by omega]; exact hl
                  exact ih38  (ys ++ [(rdN bs (ys.length * (lowN n)) (lowN n) + (u + rl false (bs.drop p)) * 2 ^ (lowN n))]) (u + rl false (bs.drop p)) (p + rl false (bs.drop p) + 1) (upd g ys.length (zI ((rdN bs (ys.length * (lowN n)) (lowN n) + (u + rl false (bs.drop p)) * 2 ^ (lowN n) : Nat) : Int))) (by rw [hl9]; exact decS2_ok hd ⟨hqr.1, by omega⟩) (hfs.push _) (by omega) (by omega) (by omega) (by omega) H locs (hw.sub [0, 2, 3, 1] rfl rfl) ls (lv_sub hl [2, 3, 4, 5, 6, 1, 0] rfl)
        exact B38 _ ([]) 0 (n * (lowN n)) g rfl (fun j h => by rw [hfa j h]; rfl) hp (Nat.zero_le _) (Nat.zero_le _) (Nat.lt_succ_self _) H locs hw ls (lv_sub hl [1, 2, 3, 4, 5, 6, 0] rfl)
      · skip
        have hnm : (i + 1) * (lowN n) ≤ n * (lowN n) := Nat.mul_le_mul_right _ (by omega)
        refine lv_aload_n X.x X.b dX7_decode_18 rfl (lv_at hl 2 rfl) ?_
        refine lv_iload X.x X.b dX7_decode_19 (lv_at hl 6 rfl) ?_
        refine lv_aload_n X.x X.b dX7_decode_21 rfl (lv_at hl 1 rfl) ?_
        refine lv_iload X.x X.b dX7_decode_22 (lv_at hl 4 rfl) ?_
        obtain ⟨t_16, ht_16⟩ : ∃ q : Bool, q = (decide (bs.length < (i * (lowN n)) + (lowN n))) := ⟨_, rfl⟩
        refine cx_i (c1 := 0) (s1 := 0) X hw [1, 2] [0, 3] (wr := [(hc, .inr (5, [])), (ha, .inl (dA 1, 24, .inl g))]) (vx_runV (As := [.int (zI (((lowN n : Nat) : Int)))]) (rest := [.int (zI (((i : Nat) : Int))), .ref ha]) X.fix (m_Row_take l hst D dA h0 hb (i * (lowN n)) bs (lowN n) f hf (by omega) (by omega) (by omega) t_16 ht_16 _) (cwV 1 X.t (lw_V q581 q532 q533 q46 q534) rfl rfl rfl (by decide +kernel) (pc_rmle (by decide) (by decide))) (pc_preV X hw [1, 2] rfl rfl 0 1 rfl rfl rfl) rfl rfl hl.1 rfl (lv_room (Nat.le_of_ble_eq_true rfl)) dX7_decode_24 (pc_c1 (fun h => by rw [ht_16] at h; have h := of_decide_eq_true h; rw [ht]; unfold decS; rw [if_pos (by omega)]; rfl))) rfl rfl rfl rfl (fun E ce q9 ux_19 H locs hq hw h1 h2 h3 => ?_) (fun r u hq => pc_c0 hq.1) (fun r_17 u_18 H locs hq hw => ?_)
        · skip
          have hw : pc_S D A s.heap [(hc, .inr (5, [])), (ha, .inl (dA 1, 24, .inl g)), (h0, .inr (0, [.ref hb, .int (zI (((bs.length : Nat) : Int))), .int (ux_19)])), (hb, .inl (dA 0, 400, .inl f))] H locs := hw
          have hw : pc_S D A s.heap [(hc, .inr (5, [])), (h0, .inr (0, [.ref hb, .int (zI (((bs.length : Nat) : Int))), .int (ux_19)])), (hb, .inl (dA 0, 400, .inl f)), (ha, .inl (dA 1, 24, .inl g))] H locs := hw.sub [0, 2, 3, 1] rfl rfl
          exact hout (g, ux_19) h1 h2 h3 (⟨hq.1, (fun h => by rw [ht_16] at h; have h := of_decide_eq_true h; rw [ht]; unfold decS; rw [if_pos (by omega)]; rfl) hq.2⟩) hw (pc_c1 (fun h => by rw [ht_16] at h; have h := of_decide_eq_true h; rw [ht]; unfold decS; rw [if_pos (by omega)]; rfl)).1 (pc_c1 (fun h => by rw [ht_16] at h; have h := of_decide_eq_true h; rw [ht]; unfold decS; rw [if_pos (by omega)]; rfl)).2
        · skip
          have hw : pc_S D A s.heap [(hc, .inr (5, [])), (ha, .inl (dA 1, 24, .inl g)), (h0, .inr (0, [.ref hb, .int (zI (((bs.length : Nat) : Int))), .int (zI ((((i * (lowN n)) + (lowN n) : Nat) : Int)))])), (hb, .inl (dA 0, 400, .inl f))] H locs := hw
          obtain ⟨hq, rfl⟩ := hq
          have hq : ¬ bs.length < (i * (lowN n)) + (lowN n) := by rw [ht_16] at hq; simpa using hq
          refine top_i (y := zI ((rdN bs (i * (lowN n)) (lowN n) : Nat) : Int)) rfl ?_
          have hr9 : rdN bs (i * (lowN n)) (lowN n) < 4096 := rdN_lt bs _ (k := 12) (by omega)
          refine lv_i2s X.x X.b dX7_decode_27 (zI_short (by omega)) ?_
          refine z_sast X hw 1 i rfl (by decide) (by omega) (zI_nars (by omega)) dX7_decode_28 (fun H locs hw => ?_)
          have hw : pc_S D A s.heap [(hc, .inr (5, [])), (ha, .inl (dA 1, 24, .inl (upd g i (zI ((rdN bs (i * (lowN n)) (lowN n) : Nat) : Int))))), (h0, .inr (0, [.ref hb, .int (zI (((bs.length : Nat) : Int))), .int (zI ((((i * (lowN n)) + (lowN n) : Nat) : Int)))])), (hb, .inl (dA 0, 400, .inl f))] H locs := hw
          refine z_iinc (lv' := [(7, .int (zI (((i : Nat) : Int) + 1))), (0, .ref hc), (1, .ref h0), (2, .ref ha), (3, .int (zI (((n : Nat) : Int)))), (5, .int (zI (((lowN n : Nat) : Int)))), (6, .int (zI 0))]) X dX7_decode_29 hl (k0 := 6) rfl (by decide) rfl (fun ls hl => ?_)
          have hl : lv_has ls 8 [(7, .int (zI (((i + 1 : Nat) : Int)))), (0, .ref hc), (1, .ref h0), (2, .ref ha), (3, .int (zI (((n : Nat) : Int)))), (5, .int (zI (((lowN n : Nat) : Int)))), (6, .int (zI 0))] := by rw [show (((i + 1 : Nat) : Int) : Int) = ((i : Nat) : Int) + 1 from by omega]; exact hl
          refine lv_goto (tgt := 12) X.x X.b dX7_decode_32 (by decide) ?_
          have hw : pc_S D A s.heap [(hc, .inr (5, [])), (ha, .inl (dA 1, 24, .inl (upd g i (zI ((rdN bs (i * (lowN n)) (lowN n) : Nat) : Int))))), (h0, .inr (0, [.ref hb, .int (zI (((bs.length : Nat) : Int))), .int (zI ((((i + 1) * (lowN n) : Nat) : Int)))])), (hb, .inl (dA 0, 400, .inl f))] H locs := by rw [show ((((i + 1) * (lowN n) : Nat) : Int) : Int) = (((i * (lowN n)) + (lowN n) : Nat) : Int) from by omega]; exact hw
          exact ih12  (i + 1) (upd g i (zI ((rdN bs (i * (lowN n)) (lowN n) : Nat) : Int))) (by omega) (upd_fill (g := fun j => zI ((rdN bs (j * (lowN n)) (lowN n) : Nat) : Int)) hfa) (by omega) (by omega) H locs (hw.sub [0, 2, 3, 1] rfl rfl) ls (lv_sub hl [1, 2, 3, 4, 5, 6, 0] rfl)
  have hw : pc_S D A s.heap [(hc, .inr (5, [])), (h0, .inr (0, [.ref hb, .int (zI (((bs.length : Nat) : Int))), .int (zI (((0 * (lowN n) : Nat) : Int)))])), (hb, .inl (dA 0, 400, .inl f)), (ha, .inl (dA 1, 24, .inl g))] H locs := by rw [show (((0 * (lowN n) : Nat) : Int) : Int) = 0 from by simp]; exact hw
  exact B12 _ 0 g (Nat.zero_le _) (fun j h => absurd h (Nat.not_lt_zero _)) (by simp) (Nat.lt_succ_self _) H locs hw ls (lv_sub hl [3, 4, 5, 6, 2, 1, 0] rfl)
