/-! The model: rows that are made -/
set_option maxRecDepth 100000
-- ===== the stack of what is still to come: from, how many, low, behind high; its bottom first
abbrev MF : Type := Nat × Nat × Nat × Nat
def mf0 : MF := (0, 0, 0, 0)
def StkIs (fs : List MF) (f1 f2 f3 f4 : Nat → Int32) : Prop := ∀ i, i < fs.length → f1 i = zI (((fs.getD i mf0).1 : Nat) : Int) ∧ f2 i = zI (((fs.getD i mf0).2.1 : Nat) : Int) ∧ f3 i = zI (((fs.getD i mf0).2.2.1 : Nat) : Int) ∧ f4 i = zI ((((fs.getD i mf0).2.2.2 : Nat) : Int) - 1)
theorem mf_l {fs : List MF} {q : MF} {i : Nat} (h : i < fs.length) : (fs ++ [q]).getD i mf0 = fs.getD i mf0 := by
  simp [List.getD_eq_getElem?_getD, List.getElem?_append_left h]
theorem mf_r {fs : List MF} {q : MF} : (fs ++ [q]).getD fs.length mf0 = q := by
  simp [List.getD_eq_getElem?_getD]
theorem StkIs.push {fs : List MF} {f1 f2 f3 f4 : Nat → Int32} (h : StkIs fs f1 f2 f3 f4) {q : MF} {w : Nat} {v1 v2 v3 v4 : Int} (hw : w = fs.length) (h1 : v1 = (q.1 : Nat)) (h2 : v2 = (q.2.1 : Nat)) (h3 : v3 = (q.2.2.1 : Nat)) (h4 : v4 = ((q.2.2.2 : Nat) : Int) - 1) : StkIs (fs ++ [q]) (upd f1 w (zI v1)) (upd f2 w (zI v2)) (upd f3 w (zI v3)) (upd f4 w (zI v4)) := by
  subst hw h1 h2 h3 h4
  intro i hi
  rw [List.length_append] at hi
  simp only [List.length_cons, List.length_nil] at hi
  by_cases e : i = fs.length
  · subst e; rw [mf_r]; simp [upd]
  · rw [mf_l (by omega)]
    simp only [upd, e, if_false]
    exact h i (by omega)
theorem StkIs.pop {fs : List MF} {q : MF} {f1 f2 f3 f4 : Nat → Int32} (h : StkIs (fs ++ [q]) f1 f2 f3 f4) : StkIs fs f1 f2 f3 f4 := by
  intro i hi
  have := h i (by rw [List.length_append]; omega)
  rw [mf_l hi] at this
  exact this
theorem StkIs.top {fs : List MF} {q : MF} {f1 f2 f3 f4 : Nat → Int32} (h : StkIs (fs ++ [q]) f1 f2 f3 f4) : f1 fs.length = zI ((q.1 : Nat) : Int) ∧ f2 fs.length = zI ((q.2.1 : Nat) : Int) ∧ f3 fs.length = zI ((q.2.2.1 : Nat) : Int) ∧ f4 fs.length = zI (((q.2.2.2 : Nat) : Int) - 1) := by
  have := h fs.length (by rw [List.length_append]; simp)
  rw [mf_r] at this
  exact this
theorem StkIs.nil {f1 f2 f3 f4 : Nat → Int32} : StkIs [] f1 f2 f3 f4 := fun i h => absurd h (Nat.not_lt_zero i)
/-- how high the stack may be: halves upon halves -/
def StkH (fs : List MF) : Prop := fs.length ≤ 6 ∧ ∀ i, i < fs.length → (fs.getD i mf0).2.1 < 2 ^ (5 - i)
theorem StkH.pop {fs : List MF} {q : MF} (h : StkH (fs ++ [q])) : StkH fs ∧ fs.length ≤ 5 ∧ q.2.1 < 2 ^ (5 - fs.length) := by
  have h1 := h.1
  rw [List.length_append] at h1
  simp only [List.length_cons, List.length_nil] at h1
  refine ⟨⟨by omega, fun i hi => ?_⟩, by omega, ?_⟩
  · have := h.2 i (by rw [List.length_append]; omega)
    rw [mf_l hi] at this
    exact this
  · have := h.2 fs.length (by rw [List.length_append]; simp)
    rw [mf_r] at this
    exact this
theorem StkH.push2 {fs : List MF} (h : StkH fs) {q1 q2 : MF} {s : Nat} (hs : 0 < s) (hs5 : s < 2 ^ (5 - fs.length)) (hl : fs.length ≤ 5) (h1 : q1.2.1 = s - 1 - s / 2) (h2 : q2.2.1 = s / 2) : StkH (fs ++ [q1] ++ [q2]) ∧ fs.length ≤ 4 := by
  have hl4 : fs.length ≤ 4 := by
    rcases Nat.lt_or_ge fs.length 5 with e | e
    · omega
    · have : fs.length = 5 := by omega
      rw [this] at hs5
      simp at hs5
      omega
  have hp : 2 ^ (5 - fs.length) = 2 ^ (5 - (fs.length + 1)) * 2 := by
    rw [← Nat.pow_succ]; congr 1; omega
  refine ⟨⟨by simp; omega, fun i hi => ?_⟩, hl4⟩
  simp only [List.length_append, List.length_cons, List.length_nil] at hi
  by_cases e2 : i = fs.length + 1
  · have : (fs ++ [q1] ++ [q2]).getD i mf0 = q2 := by
      have := mf_r (fs := fs ++ [q1]) (q := q2)
      rw [List.length_append] at this
      rw [e2]; exact this
    rw [this, h2, e2]
    omega
  · rw [mf_l (by rw [List.length_append]; simp; omega)]
    by_cases e1 : i = fs.length
    · subst e1; rw [mf_r, h1]; omega
    · rw [mf_l (by omega)]; exact h.2 i (by omega)
def StkM (fs : List MF) : Nat := (fs.map (fun q => 2 * q.2.1 + 1)).sum
theorem StkM_push (fs : List MF) (q : MF) : StkM (fs ++ [q]) = StkM fs + (2 * q.2.1 + 1) := by
  simp [StkM]
theorem encM_fuel (xs : List Nat) : ∀ d n s low hi, n < 2 ^ d → encM xs (d + 1) n s low hi = encM xs d n s low hi := by
  intro d
  induction d with
  | zero =>
    intro n s low hi hn
    have : n = 0 := by simpa using hn
    subst this
    simp [encM]
  | succ d ih =>
    intro n s low hi hn
    rw [Nat.pow_succ] at hn
    rw [encM]
    by_cases h0 : n = 0
    · rw [if_pos h0, h0]; simp [encM]
    · rw [if_neg h0, ih _ _ _ _ (by omega), ih _ _ _ _ (by omega)]
      conv => rhs; rw [encM, if_neg h0]
/-- the rows of what is still to come, the top first -/
def remM (xs : List Nat) : List MF → List Bool
  | [] => []
  | q :: l => remM xs l ++ encM xs 5 q.2.1 q.1 q.2.2.1 q.2.2.2
theorem remM_snoc (xs : List Nat) (l : List MF) (q : MF) : remM xs (l ++ [q]) = encM xs 5 q.2.1 q.1 q.2.2.1 q.2.2.2 ++ remM xs l := by
  induction l with
  | nil => simp [remM]
  | cons x l ih => rw [List.cons_append, remM, ih, remM, List.append_assoc]
def StkOK (xs : List Nat) (l : List MF) : Prop := ∀ q ∈ l, MidOK xs q.2.1 q.1 q.2.2.1 q.2.2.2 ∧ q.2.2.2 ≤ 4096
theorem encM_step (xs : List Nat) {n s low hi : Nat} (h0 : 0 < n) (hn : n < 32) : encM xs 5 n s low hi = pm (xs.getD (s + n / 2) 0 - (low + n / 2)) (hi - low - n + 1) ++ (encM xs 5 (n / 2) s low (xs.getD (s + n / 2) 0) ++ encM xs 5 (n - 1 - n / 2) (s + n / 2 + 1) (xs.getD (s + n / 2) 0 + 1) hi) := by
  rw [encM_fuel xs 4 (n / 2) _ _ _ (by omega), encM_fuel xs 4 (n - 1 - n / 2) _ _ _ (by omega)]
  rw [encM, if_neg (by omega)]
theorem fe9 {bs : List Bool} {f : Nat → Int32} {cs : List Bool} (h : RowIs bs f) (e : bs = cs) : RowIs cs f := e ▸ h
theorem stk_ok2 {xs : List Nat} (hv : Valid xs) {gs : List MF} (h : StkOK xs gs) {fr sz lo hi : Nat} (hM : MidOK xs sz fr lo hi) (hhi : hi ≤ 4096) (hs : 0 < sz) : StkOK xs (gs ++ [(fr + sz / 2 + 1, sz - 1 - sz / 2, xs.getD (fr + sz / 2) 0 + 1, hi)] ++ [(fr, sz / 2, lo, xs.getD (fr + sz / 2) 0)]) := by
  intro q hq
  rw [List.mem_append, List.mem_append, List.mem_singleton, List.mem_singleton] at hq
  have hr := (mid_rng hM hs).2.2.2
  rcases hq with (hq | rfl) | rfl
  · exact h q hq
  · exact ⟨mid_right hv hM (by omega), hhi⟩
  · exact ⟨mid_left hv hM (show sz / 2 < sz by omega), show xs.getD (fr + sz / 2) 0 ≤ 4096 by omega⟩
/-- six arrays by number -/
def a6 (a b c d e f : Nat → Int32) : Nat → Nat → Int32 := fun i => match i with
  | 0 => a
  | 1 => b
  | 2 => c
  | 3 => d
  | 4 => e
  | _ => f
set_option maxHeartbeats 4000000 in
/-- putFrames -/
theorem mm_putFrames (l : Launch) (hst : l.stackTraces = false) (D : va_G) (dA : Nat → ClassId) (b : Nat → Nat) (m0 m7 m9 m10 m11 m13 m15 m16 m17 : Int32) (xs : List Nat) (hv : Valid xs) (fW f : Nat → Int32) (hW : ArrIs xs fW) : pc_V l yX12_putFrames cX12_putFrames 4 (pc_rm 3 0 0) D dA [.ref (b 0)] [((b 0), .inr (10, [.int (m0), .ref (b 1), .ref (b 2), .ref (b 3), .ref (b 4), .ref (b 5), .ref (b 6), .int (m7), .ref (b 7), .int (m9), .int (m10), .int (zI 0), .ref (b 8), .int (zI (((xs.length : Nat) : Int))), .ref (b 9), .int (m15), .int (m16), .int (m17), .ref (b 10), .ref (b 11), .ref (b 12), .ref (b 13)])), ((b 9), .inl (dA 2, 24, .inl fW)), ((b 8), .inl (dA 3, 400, .inl f))] (fun f' : Nat → Int32 => RowIs (encF xs (nbF xs.length)) f') (fun f' => [((b 0), .inr (10, [.int (m0), .ref (b 1), .ref (b 2), .ref (b 3), .ref (b 4), .ref (b 5), .ref (b 6), .int (m7), .ref (b 7), .int (m9), .int (m10), .int (zI ((((encF xs (nbF xs.length)).length : Nat) : Int))), .ref (b 8), .int (zI (((xs.length : Nat) : Int))), .ref (b 9), .int (m15), .int (m16), .int (m17), .ref (b 10), .ref (b 11), .ref (b 12), .ref (b 13)])), ((b 9), .inl (dA 2, 24, .inl fW)), ((b 8), .inl (dA 3, 400, .inl f'))]) := by
  refine st_v hst (by decide) RX12 rfl (Nat.le_of_ble_eq_true rfl) ?_
  intro pg ev s mt args below meth cd R A Q hR X hin exit H locs hw ls hl
  subst hR
  have hl : lv_has ls 4 [(0, .ref (b 0))] := hl
  have hv1 := hv.1
  refine z_iconst X dX12_putFrames_0 ?_
  refine lv_istore_n (lv' := [(1, .int (zI 0)), (0, .ref (b 0))]) X.x X.b dX12_putFrames_1 rfl hl (by decide) rfl (fun ls hl => ?_)
  have B2 : ∀ (NN : Nat) (q : Nat) (f : Nat → Int32) (hq9 : 8 * q ≤ xs.length + 7) (hf : RowIs (encF xs q) f) (hNN : xs.length + 8 - 8 * q < NN) (H : Heap) (locs : List Loc), pc_S D A s.heap [((b 0), .inr (10, [.int (m0), .ref (b 1), .ref (b 2), .ref (b 3), .ref (b 4), .ref (b 5), .ref (b 6), .int (m7), .ref (b 7), .int (m9), .int (m10), .int (zI ((((encF xs q).length : Nat) : Int))), .ref (b 8), .int (zI (((xs.length : Nat) : Int))), .ref (b 9), .int (m15), .int (m16), .int (m17), .ref (b 10), .ref (b 11), .ref (b 12), .ref (b 13)])), ((b 9), .inl (dA 2, 24, .inl fW)), ((b 8), .inl (dA 3, 400, .inl f))] H locs → ∀ ls : Array Slot, lv_has ls 4 [(0, .ref (b 0)), (1, .int (zI (((8 * q : Nat) : Int))))] → W pg l ev (pc_rm 3 0 0) s mt args below meth cd H locs 0 0 Q (F0 mt 2 ls []) := by
    intro NN
    induction NN with
    | zero => intro q f hq9 hf hNN; exact absurd hNN (Nat.not_lt_zero _)
    | succ NN ih2 =>
      intro q f hq9 hf hNN H locs hw ls hl
      have hln := encF_len hv q hq9
      refine lv_iload_n X.x X.b dX12_putFrames_2 rfl (lv_at hl 1 rfl) ?_
      refine lv_aload_n X.x X.b dX12_putFrames_3 rfl (lv_at hl 0 rfl) ?_
      refine z_get X hw in_X12 0 rfl rfl 13 (by decide) q677 rfl rfl dX12_putFrames_4 ?_
      refine z_icmp_ge (tgt := 107) X dX12_putFrames_7 (by decide) (by omega) (by omega) (fun c_1 => ?_) (fun c_1 => ?_)
      · skip
        have hb9 : q = nbF xs.length := by unfold nbF; omega
        rw [hb9] at hw hf
        exact exit f dX12_putFrames_107 hf hw (Nat.zero_le _) (Nat.zero_le _)
      · skip
        have hc8 : cF xs.length q ≤ 8 ∧ 8 * q + cF xs.length q ≤ xs.length ∧ 0 < cF xs.length q ∧ (8 * q + cF xs.length q = xs.length ∨ cF xs.length q = 8) := by unfold cF; omega
        have hw12 := wF_le hv q (by omega)
        refine z_iconst X dX12_putFrames_10 ?_
        refine lv_istore_n (lv' := [(2, .int (zI 0)), (0, .ref (b 0)), (1, .int (zI (((8 * q : Nat) : Int))))]) X.x X.b dX12_putFrames_11 rfl hl (by decide) rfl (fun ls hl => ?_)
        have B61 : ∀ (_ : Unit) (H : Heap) (locs : List Loc), pc_S D A s.heap [((b 0), .inr (10, [.int (m0), .ref (b 1), .ref (b 2), .ref (b 3), .ref (b 4), .ref (b 5), .ref (b 6), .int (m7), .ref (b 7), .int (m9), .int (m10), .int (zI ((((encF xs q).length : Nat) : Int))), .ref (b 8), .int (zI (((xs.length : Nat) : Int))), .ref (b 9), .int (m15), .int (m16), .int (m17), .ref (b 10), .ref (b 11), .ref (b 12), .ref (b 13)])), ((b 9), .inl (dA 2, 24, .inl fW)), ((b 8), .inl (dA 3, 400, .inl f))] H locs → ∀ ls : Array Slot, lv_has ls 4 [(0, .ref (b 0)), (1, .int (zI (((8 * q : Nat) : Int)))), (2, .int (zI (((wF xs q : Nat) : Int))))] → W pg l ev (pc_rm 3 0 0) s mt args below meth cd H locs 0 0 Q (F0 mt 61 ls []) := by
          intro _   H locs hw ls hl
          refine lv_aload_n X.x X.b dX12_putFrames_61 rfl (lv_at hl 0 rfl) ?_
          refine lv_iload_n X.x X.b dX12_putFrames_62 rfl (lv_at hl 2 rfl) ?_
          refine z_iconst X dX12_putFrames_63 ?_
          refine cv_v (c1 := 0) (s1 := 0) X hw [0, 2] [1] (wr := [((b 9), .inl (dA 2, 24, .inl fW))]) (va_runV (As := [.int (zI (((wF xs q : Nat) : Int))), .int (zI 4)]) (rest := []) X.fix (mm_put l hst D dA b m0 m7 m9 m10 (zI (((encF xs q).length : Nat) : Int)) (zI ((xs.length : Nat) : Int)) m15 m16 m17 (encF xs q) (zI ((wF xs q : Nat) : Int)) 4 f hf (by first | omega | (simp only [List.length_append, pb_len, List.length_replicate]; omega)) _) (cwV 2 X.t (lw_V q781 q783 qs16 q48 q784) rfl rfl rfl (by decide +kernel) (pc_rmle (by decide) (by decide))) (pc_preV X hw [0, 2] rfl rfl 10 0 rfl rfl rfl) rfl rfl hl.1 rfl (lv_room (Nat.le_of_ble_eq_true rfl)) dX12_putFrames_64 ⟨Nat.le_of_ble_eq_true rfl, Nat.le_of_ble_eq_true rfl⟩) rfl rfl rfl rfl (fun _ _ => pc_c00) (fun u_3 H locs hq hw => ?_)
          have hw : pc_S D A s.heap [((b 9), .inl (dA 2, 24, .inl fW)), ((b 0), .inr (10, [.int (m0), .ref (b 1), .ref (b 2), .ref (b 3), .ref (b 4), .ref (b 5), .ref (b 6), .int (m7), .ref (b 7), .int (m9), .int (m10), .int (zI (((((encF xs q) ++ pb (zI ((wF xs q : Nat) : Int)) 4).length : Nat) : Int))), .ref (b 8), .int (zI (((xs.length : Nat) : Int))), .ref (b 9), .int (m15), .int (m16), .int (m17), .ref (b 10), .ref (b 11), .ref (b 12), .ref (b 13)])), ((b 8), .inl (dA 3, 400, .inl u_3))] H locs := hw
          have hu_3 := hq
          refine lv_iload_n X.x X.b dX12_putFrames_67 rfl (lv_at hl 1 rfl) ?_
          refine lv_istore_n (lv' := [(3, .int (zI (((8 * q : Nat) : Int)))), (0, .ref (b 0)), (1, .int (zI (((8 * q : Nat) : Int)))), (2, .int (zI (((wF xs q : Nat) : Int))))]) X.x X.b dX12_putFrames_68 rfl hl (by decide) rfl (fun ls hl => ?_)
          have B69 : ∀ (NN : Nat) (j : Nat) (f : Nat → Int32) (hj : j ≤ cF xs.length q) (hf : RowIs (encF xs q ++ pb (zI ((wF xs q : Nat) : Int)) 4 ++ bodyF xs q (wF xs q) j) f) (hNN : cF xs.length q - j < NN) (H : Heap) (locs : List Loc), pc_S D A s.heap [((b 0), .inr (10, [.int (m0), .ref (b 1), .ref (b 2), .ref (b 3), .ref (b 4), .ref (b 5), .ref (b 6), .int (m7), .ref (b 7), .int (m9), .int (m10), .int (zI ((((encF xs q ++ pb (zI ((wF xs q : Nat) : Int)) 4 ++ bodyF xs q (wF xs q) j).length : Nat) : Int))), .ref (b 8), .int (zI (((xs.length : Nat) : Int))), .ref (b 9), .int (m15), .int (m16), .int (m17), .ref (b 10), .ref (b 11), .ref (b 12), .ref (b 13)])), ((b 9), .inl (dA 2, 24, .inl fW)), ((b 8), .inl (dA 3, 400, .inl f))] H locs → ∀ ls : Array Slot, lv_has ls 4 [(0, .ref (b 0)), (1, .int (zI (((8 * q : Nat) : Int)))), (2, .int (zI (((wF xs q : Nat) : Int)))), (3, .int (zI (((8 * q + j : Nat) : Int))))] → W pg l ev (pc_rm 3 0 0) s mt args below meth cd H locs 0 0 Q (F0 mt 69 ls []) := by
            intro NN
            induction NN with
            | zero => intro j f hj hf hNN; exact absurd hNN (Nat.not_lt_zero _)
            | succ NN ih69 =>
              intro j f hj hf hNN H locs hw ls hl
              have hbl : (bodyF xs q (wF xs q) j).length ≤ 96 := by
                rw [bodyF_len]
                have := Nat.mul_le_mul (show j ≤ 8 by omega) hw12
                omega
              refine lv_iload_n X.x X.b dX12_putFrames_69 rfl (lv_at hl 3 rfl) ?_
              refine lv_aload_n X.x X.b dX12_putFrames_70 rfl (lv_at hl 0 rfl) ?_
              refine z_get X hw in_X12 0 rfl rfl 13 (by decide) q677 rfl rfl dX12_putFrames_71 ?_
              refine z_icmp_ge (tgt := 101) X dX12_putFrames_74 (by decide) (by omega) (by omega) (fun c_4 => ?_) (fun c_4 => ?_)
              · skip
                have e9_5 : encF xs q ++ pb (zI ((wF xs q : Nat) : Int)) 4 ++ bodyF xs q (wF xs q) j = encF xs (q + 1) := by
                  rw [show j = cF xs.length q from by omega, encF_succ, List.append_assoc]; rfl
                have hw : pc_S D A s.heap [((b 0), .inr (10, [.int (m0), .ref (b 1), .ref (b 2), .ref (b 3), .ref (b 4), .ref (b 5), .ref (b 6), .int (m7), .ref (b 7), .int (m9), .int (m10), .int (zI ((((encF xs (q + 1)).length : Nat) : Int))), .ref (b 8), .int (zI (((xs.length : Nat) : Int))), .ref (b 9), .int (m15), .int (m16), .int (m17), .ref (b 10), .ref (b 11), .ref (b 12), .ref (b 13)])), ((b 9), .inl (dA 2, 24, .inl fW)), ((b 8), .inl (dA 3, 400, .inl f))] H locs := by rw [← e9_5]; exact hw
                have hf := fe9 hf e9_5
                refine z_iinc (lv' := [(1, .int (zI (((8 * q : Nat) : Int) + 8))), (0, .ref (b 0)), (2, .int (zI (((wF xs q : Nat) : Int)))), (3, .int (zI (((8 * q + j : Nat) : Int))))]) X dX12_putFrames_101 hl (k0 := 1) rfl (by decide) rfl (fun ls hl => ?_)
                have hl : lv_has ls 4 [(1, .int (zI (((8 * (q + 1) : Nat) : Int)))), (0, .ref (b 0)), (2, .int (zI (((wF xs q : Nat) : Int)))), (3, .int (zI (((8 * q + j : Nat) : Int))))] := by rw [show (((8 * (q + 1) : Nat) : Int) : Int) = ((8 * q : Nat) : Int) + 8 from by omega]; exact hl
                refine lv_goto (tgt := 2) X.x X.b dX12_putFrames_104 (by decide) ?_
                exact ih2  (q + 1) f (by omega) hf (by omega) H locs hw ls (lv_sub hl [1, 0] rfl)
              · skip
                refine lv_iload_n X.x X.b dX12_putFrames_77 rfl (lv_at hl 3 rfl) ?_
                refine lv_iload_n X.x X.b dX12_putFrames_78 rfl (lv_at hl 1 rfl) ?_
                refine z_bipush X dX12_putFrames_79 (by decide) ?_
                refine z_iadd X dX12_putFrames_81 ?_
                refine top_i (y := zI (((8 * q) + 8 : Nat) : Int)) (congrArg zI (by omega)) ?_
                refine z_icmp_ge (tgt := 101) X dX12_putFrames_82 (by decide) (by omega) (by omega) (fun c_6 => ?_) (fun c_6 => ?_)
                · skip
                  have e9_7 : encF xs q ++ pb (zI ((wF xs q : Nat) : Int)) 4 ++ bodyF xs q (wF xs q) j = encF xs (q + 1) := by
                    rw [show j = cF xs.length q from by omega, encF_succ, List.append_assoc]; rfl
                  have hw : pc_S D A s.heap [((b 0), .inr (10, [.int (m0), .ref (b 1), .ref (b 2), .ref (b 3), .ref (b 4), .ref (b 5), .ref (b 6), .int (m7), .ref (b 7), .int (m9), .int (m10), .int (zI ((((encF xs (q + 1)).length : Nat) : Int))), .ref (b 8), .int (zI (((xs.length : Nat) : Int))), .ref (b 9), .int (m15), .int (m16), .int (m17), .ref (b 10), .ref (b 11), .ref (b 12), .ref (b 13)])), ((b 9), .inl (dA 2, 24, .inl fW)), ((b 8), .inl (dA 3, 400, .inl f))] H locs := by rw [← e9_7]; exact hw
                  have hf := fe9 hf e9_7
                  refine z_iinc (lv' := [(1, .int (zI (((8 * q : Nat) : Int) + 8))), (0, .ref (b 0)), (2, .int (zI (((wF xs q : Nat) : Int)))), (3, .int (zI (((8 * q + j : Nat) : Int))))]) X dX12_putFrames_101 hl (k0 := 1) rfl (by decide) rfl (fun ls hl => ?_)
                  have hl : lv_has ls 4 [(1, .int (zI (((8 * (q + 1) : Nat) : Int)))), (0, .ref (b 0)), (2, .int (zI (((wF xs q : Nat) : Int)))), (3, .int (zI (((8 * q + j : Nat) : Int))))] := by rw [show (((8 * (q + 1) : Nat) : Int) : Int) = ((8 * q : Nat) : Int) + 8 from by omega]; exact hl
                  refine lv_goto (tgt := 2) X.x X.b dX12_putFrames_104 (by decide) ?_
                  exact ih2  (q + 1) f (by omega) hf (by omega) H locs hw ls (lv_sub hl [1, 0] rfl)
                · skip
                  refine lv_aload_n X.x X.b dX12_putFrames_85 rfl (lv_at hl 0 rfl) ?_
                  refine lv_aload_n X.x X.b dX12_putFrames_86 rfl (lv_at hl 0 rfl) ?_
                  refine lv_iload_n X.x X.b dX12_putFrames_87 rfl (lv_at hl 3 rfl) ?_
                  refine cv_i (c1 := 0) (s1 := 0) X hw [0, 1] [2] (wr := [((b 8), .inl (dA 3, 400, .inl f))]) (va_runV (As := [.int (zI (((8 * q + j : Nat) : Int)))]) (rest := [.ref (b 0)]) X.fix (mm_less l hst D dA b m0 m7 m9 m10 (zI (((encF xs q ++ pb (zI ((wF xs q : Nat) : Int)) 4 ++ bodyF xs q (wF xs q) j).length : Nat) : Int)) (zI ((xs.length : Nat) : Int)) m15 m16 m17 fW xs hv hW (8 * q + j) (by omega) _) (cwV 1 X.t (lw_V q774 q776 qs15 q48 q777) rfl rfl rfl (by decide +kernel) (pc_rmle (by decide) (by decide))) (pc_preV X hw [0, 1] rfl rfl 10 0 rfl rfl rfl) rfl rfl hl.1 rfl (lv_room (Nat.le_of_ble_eq_true rfl)) dX12_putFrames_88 ⟨Nat.le_of_ble_eq_true rfl, Nat.le_of_ble_eq_true rfl⟩) rfl rfl rfl rfl (fun _ _ _ => pc_c00) (fun r_8 u_9 H locs hq hw => ?_)
                  have hw : pc_S D A s.heap [((b 8), .inl (dA 3, 400, .inl f)), ((b 0), .inr (10, [.int (m0), .ref (b 1), .ref (b 2), .ref (b 3), .ref (b 4), .ref (b 5), .ref (b 6), .int (m7), .ref (b 7), .int (m9), .int (m10), .int (zI ((((encF xs q ++ pb (zI ((wF xs q : Nat) : Int)) 4 ++ bodyF xs q (wF xs q) j).length : Nat) : Int))), .ref (b 8), .int (zI (((xs.length : Nat) : Int))), .ref (b 9), .int (m15), .int (m16), .int (m17), .ref (b 10), .ref (b 11), .ref (b 12), .ref (b 13)])), ((b 9), .inl (dA 2, 24, .inl fW))] H locs := hw
                  subst hq
                  refine lv_iload_n X.x X.b dX12_putFrames_91 rfl (lv_at hl 2 rfl) ?_
                  refine cv_v (c1 := 0) (s1 := 0) X hw [1, 0] [2] (wr := [((b 9), .inl (dA 2, 24, .inl fW))]) (va_runV (As := [.int (zI (((gap xs (8 * q + j) : Nat) : Int))), .int (zI (((wF xs q : Nat) : Int)))]) (rest := []) X.fix (mm_put l hst D dA b m0 m7 m9 m10 (zI (((encF xs q ++ pb (zI ((wF xs q : Nat) : Int)) 4 ++ bodyF xs q (wF xs q) j).length : Nat) : Int)) (zI ((xs.length : Nat) : Int)) m15 m16 m17 (encF xs q ++ pb (zI ((wF xs q : Nat) : Int)) 4 ++ bodyF xs q (wF xs q) j) (zI ((gap xs (8 * q + j) : Nat) : Int)) (wF xs q) f hf (by first | omega | (simp only [List.length_append, pb_len, List.length_replicate]; omega)) _) (cwV 2 X.t (lw_V q781 q783 qs16 q48 q784) rfl rfl rfl (by decide +kernel) (pc_rmle (by decide) (by decide))) (pc_preV X hw [1, 0] rfl rfl 10 1 rfl rfl rfl) rfl rfl hl.1 rfl (lv_room (Nat.le_of_ble_eq_true rfl)) dX12_putFrames_92 ⟨Nat.le_of_ble_eq_true rfl, Nat.le_of_ble_eq_true rfl⟩) rfl rfl rfl rfl (fun _ _ => pc_c00) (fun u_11 H locs hq hw => ?_)
                  have hw : pc_S D A s.heap [((b 9), .inl (dA 2, 24, .inl fW)), ((b 0), .inr (10, [.int (m0), .ref (b 1), .ref (b 2), .ref (b 3), .ref (b 4), .ref (b 5), .ref (b 6), .int (m7), .ref (b 7), .int (m9), .int (m10), .int (zI (((((encF xs q ++ pb (zI ((wF xs q : Nat) : Int)) 4 ++ bodyF xs q (wF xs q) j) ++ pb (zI ((gap xs (8 * q + j) : Nat) : Int)) (wF xs q)).length : Nat) : Int))), .ref (b 8), .int (zI (((xs.length : Nat) : Int))), .ref (b 9), .int (m15), .int (m16), .int (m17), .ref (b 10), .ref (b 11), .ref (b 12), .ref (b 13)])), ((b 8), .inl (dA 3, 400, .inl u_11))] H locs := hw
                  have hu_11 := hq
                  refine z_iinc (lv' := [(3, .int (zI (((8 * q + j : Nat) : Int) + 1))), (0, .ref (b 0)), (1, .int (zI (((8 * q : Nat) : Int)))), (2, .int (zI (((wF xs q : Nat) : Int))))]) X dX12_putFrames_95 hl (k0 := 3) rfl (by decide) rfl (fun ls hl => ?_)
                  have hl : lv_has ls 4 [(3, .int (zI (((8 * q + (j + 1) : Nat) : Int)))), (0, .ref (b 0)), (1, .int (zI (((8 * q : Nat) : Int)))), (2, .int (zI (((wF xs q : Nat) : Int))))] := by rw [show (((8 * q + (j + 1) : Nat) : Int) : Int) = ((8 * q + j : Nat) : Int) + 1 from by omega]; exact hl
                  refine lv_goto (tgt := 69) X.x X.b dX12_putFrames_98 (by decide) ?_
                  have e9_12 : (encF xs q ++ pb (zI ((wF xs q : Nat) : Int)) 4 ++ bodyF xs q (wF xs q) j) ++ pb (zI ((gap xs (8 * q + j) : Nat) : Int)) (wF xs q) = encF xs q ++ pb (zI ((wF xs q : Nat) : Int)) 4 ++ bodyF xs q (wF xs q) (j + 1) := by rw [bodyF_succ, ← List.append_assoc]
                  have hw : pc_S D A s.heap [((b 9), .inl (dA 2, 24, .inl fW)), ((b 0), .inr (10, [.int (m0), .ref (b 1), .ref (b 2), .ref (b 3), .ref (b 4), .ref (b 5), .ref (b 6), .int (m7), .ref (b 7), .int (m9), .int (m10), .int (zI ((((encF xs q ++ pb (zI ((wF xs q : Nat) : Int)) 4 ++ bodyF xs q (wF xs q) (j + 1)).length : Nat) : Int))), .ref (b 8), .int (zI (((xs.length : Nat) : Int))), .ref (b 9), .int (m15), .int (m16), .int (m17), .ref (b 10), .ref (b 11), .ref (b 12), .ref (b 13)])), ((b 8), .inl (dA 3, 400, .inl u_11))] H locs := by rw [← e9_12]; exact hw
                  have hu_11 := fe9 hu_11 e9_12
                  exact ih69  (j + 1) u_11 (by omega) hu_11 (by omega) H locs (hw.sub [1, 0, 2] rfl rfl) ls (lv_sub hl [1, 2, 3, 0] rfl)
          have e9_13 : (encF xs q) ++ pb (zI ((wF xs q : Nat) : Int)) 4 = encF xs q ++ pb (zI ((wF xs q : Nat) : Int)) 4 ++ bodyF xs q (wF xs q) 0 := by simp [bodyF]
          have hw : pc_S D A s.heap [((b 9), .inl (dA 2, 24, .inl fW)), ((b 0), .inr (10, [.int (m0), .ref (b 1), .ref (b 2), .ref (b 3), .ref (b 4), .ref (b 5), .ref (b 6), .int (m7), .ref (b 7), .int (m9), .int (m10), .int (zI ((((encF xs q ++ pb (zI ((wF xs q : Nat) : Int)) 4 ++ bodyF xs q (wF xs q) 0).length : Nat) : Int))), .ref (b 8), .int (zI (((xs.length : Nat) : Int))), .ref (b 9), .int (m15), .int (m16), .int (m17), .ref (b 10), .ref (b 11), .ref (b 12), .ref (b 13)])), ((b 8), .inl (dA 3, 400, .inl u_3))] H locs := by rw [← e9_13]; exact hw
          have hu_3 := fe9 hu_3 e9_13
          exact B69 _ 0 u_3 (Nat.zero_le _) hu_3 (Nat.lt_succ_self _) H locs (hw.sub [1, 0, 2] rfl rfl) ls (lv_sub hl [1, 2, 3, 0] rfl)
        refine lv_iload_n X.x X.b dX12_putFrames_12 rfl (lv_at hl 2 rfl) ?_
        refine lv_istore_n (lv' := [(3, .int (zI (((8 * q : Nat) : Int)))), (2, .int (zI 0)), (0, .ref (b 0)), (1, .int (zI (((8 * q : Nat) : Int))))]) X.x X.b dX12_putFrames_13 rfl hl (by decide) rfl (fun ls hl => ?_)
        have B14 : ∀ (NN : Nat) (j : Nat) (hj : j ≤ cF xs.length q) (hNN : cF xs.length q - j < NN) (H : Heap) (locs : List Loc), pc_S D A s.heap [((b 0), .inr (10, [.int (m0), .ref (b 1), .ref (b 2), .ref (b 3), .ref (b 4), .ref (b 5), .ref (b 6), .int (m7), .ref (b 7), .int (m9), .int (m10), .int (zI ((((encF xs q).length : Nat) : Int))), .ref (b 8), .int (zI (((xs.length : Nat) : Int))), .ref (b 9), .int (m15), .int (m16), .int (m17), .ref (b 10), .ref (b 11), .ref (b 12), .ref (b 13)])), ((b 9), .inl (dA 2, 24, .inl fW)), ((b 8), .inl (dA 3, 400, .inl f))] H locs → ∀ ls : Array Slot, lv_has ls 4 [(0, .ref (b 0)), (1, .int (zI (((8 * q : Nat) : Int)))), (2, .int (zI (((wM xs (8 * q) j : Nat) : Int)))), (3, .int (zI (((8 * q + j : Nat) : Int))))] → W pg l ev (pc_rm 3 0 0) s mt args below meth cd H locs 0 0 Q (F0 mt 14 ls []) := by
          intro NN
          induction NN with
          | zero => intro j hj hNN; exact absurd hNN (Nat.not_lt_zero _)
          | succ NN ih14 =>
            intro j hj hNN H locs hw ls hl
            have hwm := wM_le hv (s := 8 * q) (j := j) (by omega)
            refine lv_iload_n X.x X.b dX12_putFrames_14 rfl (lv_at hl 3 rfl) ?_
            refine lv_aload_n X.x X.b dX12_putFrames_15 rfl (lv_at hl 0 rfl) ?_
            refine z_get X hw in_X12 0 rfl rfl 13 (by decide) q677 rfl rfl dX12_putFrames_16 ?_
            refine z_icmp_ge (tgt := 61) X dX12_putFrames_19 (by decide) (by omega) (by omega) (fun c_14 => ?_) (fun c_14 => ?_)
            · skip
              have hj9 : j = cF xs.length q := by omega
              have hl : lv_has ls 4 [(0, .ref (b 0)), (1, .int (zI (((8 * q : Nat) : Int)))), (2, .int (zI (((wF xs q : Nat) : Int)))), (3, .int (zI (((8 * q + j : Nat) : Int))))] := by rw [show (((wF xs q : Nat) : Int) : Int) = ((wM xs (8 * q) j : Nat) : Int) from by rw [hj9, wM_eq]; rfl]; exact hl
              exact B61 ()    H locs hw ls (lv_sub hl [0, 1, 2] rfl)
            · skip
              refine lv_iload_n X.x X.b dX12_putFrames_22 rfl (lv_at hl 3 rfl) ?_
              refine lv_iload_n X.x X.b dX12_putFrames_23 rfl (lv_at hl 1 rfl) ?_
              refine z_bipush X dX12_putFrames_24 (by decide) ?_
              refine z_iadd X dX12_putFrames_26 ?_
              refine top_i (y := zI (((8 * q) + 8 : Nat) : Int)) (congrArg zI (by omega)) ?_
              refine z_icmp_ge (tgt := 61) X dX12_putFrames_27 (by decide) (by omega) (by omega) (fun c_15 => ?_) (fun c_15 => ?_)
              · skip
                have hj9 : j = cF xs.length q := by omega
                have hl : lv_has ls 4 [(0, .ref (b 0)), (1, .int (zI (((8 * q : Nat) : Int)))), (2, .int (zI (((wF xs q : Nat) : Int)))), (3, .int (zI (((8 * q + j : Nat) : Int))))] := by rw [show (((wF xs q : Nat) : Int) : Int) = ((wM xs (8 * q) j : Nat) : Int) from by rw [hj9, wM_eq]; rfl]; exact hl
                exact B61 ()    H locs hw ls (lv_sub hl [0, 1, 2] rfl)
              · skip
                refine lv_aload_n X.x X.b dX12_putFrames_30 rfl (lv_at hl 0 rfl) ?_
                refine lv_iload_n X.x X.b dX12_putFrames_31 rfl (lv_at hl 3 rfl) ?_
                refine cv_i (c1 := 0) (s1 := 0) X hw [0, 1] [2] (wr := [((b 8), .inl (dA 3, 400, .inl f))]) (va_runV (As := [.int (zI (((8 * q + j : Nat) : Int)))]) (rest := []) X.fix (mm_less l hst D dA b m0 m7 m9 m10 (zI (((encF xs q).length : Nat) : Int)) (zI ((xs.length : Nat) : Int)) m15 m16 m17 fW xs hv hW (8 * q + j) (by omega) _) (cwV 1 X.t (lw_V q774 q776 qs15 q48 q777) rfl rfl rfl (by decide +kernel) (pc_rmle (by decide) (by decide))) (pc_preV X hw [0, 1] rfl rfl 10 0 rfl rfl rfl) rfl rfl hl.1 rfl (lv_room (Nat.le_of_ble_eq_true rfl)) dX12_putFrames_32 ⟨Nat.le_of_ble_eq_true rfl, Nat.le_of_ble_eq_true rfl⟩) rfl rfl rfl rfl (fun _ _ _ => pc_c00) (fun r_16 u_17 H locs hq hw => ?_)
                have hw : pc_S D A s.heap [((b 8), .inl (dA 3, 400, .inl f)), ((b 0), .inr (10, [.int (m0), .ref (b 1), .ref (b 2), .ref (b 3), .ref (b 4), .ref (b 5), .ref (b 6), .int (m7), .ref (b 7), .int (m9), .int (m10), .int (zI ((((encF xs q).length : Nat) : Int))), .ref (b 8), .int (zI (((xs.length : Nat) : Int))), .ref (b 9), .int (m15), .int (m16), .int (m17), .ref (b 10), .ref (b 11), .ref (b 12), .ref (b 13)])), ((b 9), .inl (dA 2, 24, .inl fW))] H locs := hw
                subst hq
                have hgp := gap_le hv (i := 8 * q + j) (by omega)
                have hbp : blen (gap xs (8 * q + j)) ≤ 12 := blen_max (by omega)
                refine cv_i (c1 := 0) (s1 := 0) X hw [] [0, 1, 2] (wr := [((b 8), .inl (dA 3, 400, .inl f)), ((b 0), .inr (10, [.int (m0), .ref (b 1), .ref (b 2), .ref (b 3), .ref (b 4), .ref (b 5), .ref (b 6), .int (m7), .ref (b 7), .int (m9), .int (m10), .int (zI ((((encF xs q).length : Nat) : Int))), .ref (b 8), .int (zI (((xs.length : Nat) : Int))), .ref (b 9), .int (m15), .int (m16), .int (m17), .ref (b 10), .ref (b 11), .ref (b 12), .ref (b 13)])), ((b 9), .inl (dA 2, 24, .inl fW))]) (va_runS (As := [.int (zI (((gap xs (8 * q + j) : Nat) : Int)))]) (rest := []) X.fix (mm_bits l hst D dA (gap xs (8 * q + j)) (by omega) _) (va_cwS 1 X.t (lw_S q778 q779 q48 q780) rfl rfl rfl (by decide +kernel) (pc_rmle (by decide) (by decide))) (pc_preS X hw [] rfl rfl) rfl rfl hl.1 rfl (lv_room (Nat.le_of_ble_eq_true rfl)) dX12_putFrames_35 ⟨Nat.le_of_ble_eq_true rfl, Nat.le_of_ble_eq_true rfl⟩) rfl rfl rfl rfl (fun _ _ _ => pc_c00) (fun r_18 u_19 H locs hq hw => ?_)
                have hw : pc_S D A s.heap [((b 8), .inl (dA 3, 400, .inl f)), ((b 0), .inr (10, [.int (m0), .ref (b 1), .ref (b 2), .ref (b 3), .ref (b 4), .ref (b 5), .ref (b 6), .int (m7), .ref (b 7), .int (m9), .int (m10), .int (zI ((((encF xs q).length : Nat) : Int))), .ref (b 8), .int (zI (((xs.length : Nat) : Int))), .ref (b 9), .int (m15), .int (m16), .int (m17), .ref (b 10), .ref (b 11), .ref (b 12), .ref (b 13)])), ((b 9), .inl (dA 2, 24, .inl fW))] H locs := hw
                subst hq
                refine lv_iload_n X.x X.b dX12_putFrames_38 rfl (lv_at hl 2 rfl) ?_
                refine z_icmp_le (tgt := 53) X dX12_putFrames_39 (by decide) (by omega) (by omega) (fun c_20 => ?_) (fun c_20 => ?_)
                · skip
                  refine lv_iload_n X.x X.b dX12_putFrames_53 rfl (lv_at hl 2 rfl) ?_
                  refine lv_istore_n (lv' := [(2, .int (zI (((wM xs (8 * q) j : Nat) : Int)))), (0, .ref (b 0)), (1, .int (zI (((8 * q : Nat) : Int)))), (3, .int (zI (((8 * q + j : Nat) : Int))))]) X.x X.b dX12_putFrames_54 rfl hl (by decide) rfl (fun ls hl => ?_)
                  refine z_iinc (lv' := [(3, .int (zI (((8 * q + j : Nat) : Int) + 1))), (2, .int (zI (((wM xs (8 * q) j : Nat) : Int)))), (0, .ref (b 0)), (1, .int (zI (((8 * q : Nat) : Int))))]) X dX12_putFrames_55 hl (k0 := 3) rfl (by decide) rfl (fun ls hl => ?_)
                  have hl : lv_has ls 4 [(3, .int (zI (((8 * q + (j + 1) : Nat) : Int)))), (2, .int (zI (((wM xs (8 * q) j : Nat) : Int)))), (0, .ref (b 0)), (1, .int (zI (((8 * q : Nat) : Int))))] := by rw [show (((8 * q + (j + 1) : Nat) : Int) : Int) = ((8 * q + j : Nat) : Int) + 1 from by omega]; exact hl
                  refine lv_goto (tgt := 14) X.x X.b dX12_putFrames_58 (by decide) ?_
                  have hl : lv_has ls 4 [(3, .int (zI (((8 * q + (j + 1) : Nat) : Int)))), (2, .int (zI (((wM xs (8 * q) (j + 1) : Nat) : Int)))), (0, .ref (b 0)), (1, .int (zI (((8 * q : Nat) : Int))))] := by rw [show (((wM xs (8 * q) (j + 1) : Nat) : Int) : Int) = ((wM xs (8 * q) j : Nat) : Int) from by rw [wM, if_neg (by omega)]]; exact hl
                  exact ih14  (j + 1) (by omega) (by omega) H locs (hw.sub [1, 2, 0] rfl rfl) ls (lv_sub hl [2, 3, 1, 0] rfl)
                · skip
                  refine lv_aload_n X.x X.b dX12_putFrames_42 rfl (lv_at hl 0 rfl) ?_
                  refine lv_iload_n X.x X.b dX12_putFrames_43 rfl (lv_at hl 3 rfl) ?_
                  refine cv_i (c1 := 0) (s1 := 0) X hw [1, 2] [0] (wr := [((b 8), .inl (dA 3, 400, .inl f))]) (va_runV (As := [.int (zI (((8 * q + j : Nat) : Int)))]) (rest := []) X.fix (mm_less l hst D dA b m0 m7 m9 m10 (zI (((encF xs q).length : Nat) : Int)) (zI ((xs.length : Nat) : Int)) m15 m16 m17 fW xs hv hW (8 * q + j) (by omega) _) (cwV 1 X.t (lw_V q774 q776 qs15 q48 q777) rfl rfl rfl (by decide +kernel) (pc_rmle (by decide) (by decide))) (pc_preV X hw [1, 2] rfl rfl 10 1 rfl rfl rfl) rfl rfl hl.1 rfl (lv_room (Nat.le_of_ble_eq_true rfl)) dX12_putFrames_44 ⟨Nat.le_of_ble_eq_true rfl, Nat.le_of_ble_eq_true rfl⟩) rfl rfl rfl rfl (fun _ _ _ => pc_c00) (fun r_21 u_22 H locs hq hw => ?_)
                  have hw : pc_S D A s.heap [((b 8), .inl (dA 3, 400, .inl f)), ((b 0), .inr (10, [.int (m0), .ref (b 1), .ref (b 2), .ref (b 3), .ref (b 4), .ref (b 5), .ref (b 6), .int (m7), .ref (b 7), .int (m9), .int (m10), .int (zI ((((encF xs q).length : Nat) : Int))), .ref (b 8), .int (zI (((xs.length : Nat) : Int))), .ref (b 9), .int (m15), .int (m16), .int (m17), .ref (b 10), .ref (b 11), .ref (b 12), .ref (b 13)])), ((b 9), .inl (dA 2, 24, .inl fW))] H locs := hw
                  subst hq
                  refine cv_i (c1 := 0) (s1 := 0) X hw [] [0, 1, 2] (wr := [((b 8), .inl (dA 3, 400, .inl f)), ((b 0), .inr (10, [.int (m0), .ref (b 1), .ref (b 2), .ref (b 3), .ref (b 4), .ref (b 5), .ref (b 6), .int (m7), .ref (b 7), .int (m9), .int (m10), .int (zI ((((encF xs q).length : Nat) : Int))), .ref (b 8), .int (zI (((xs.length : Nat) : Int))), .ref (b 9), .int (m15), .int (m16), .int (m17), .ref (b 10), .ref (b 11), .ref (b 12), .ref (b 13)])), ((b 9), .inl (dA 2, 24, .inl fW))]) (va_runS (As := [.int (zI (((gap xs (8 * q + j) : Nat) : Int)))]) (rest := []) X.fix (mm_bits l hst D dA (gap xs (8 * q + j)) (by omega) _) (va_cwS 1 X.t (lw_S q778 q779 q48 q780) rfl rfl rfl (by decide +kernel) (pc_rmle (by decide) (by decide))) (pc_preS X hw [] rfl rfl) rfl rfl hl.1 rfl (lv_room (Nat.le_of_ble_eq_true rfl)) dX12_putFrames_47 ⟨Nat.le_of_ble_eq_true rfl, Nat.le_of_ble_eq_true rfl⟩) rfl rfl rfl rfl (fun _ _ _ => pc_c00) (fun r_23 u_24 H locs hq hw => ?_)
                  have hw : pc_S D A s.heap [((b 8), .inl (dA 3, 400, .inl f)), ((b 0), .inr (10, [.int (m0), .ref (b 1), .ref (b 2), .ref (b 3), .ref (b 4), .ref (b 5), .ref (b 6), .int (m7), .ref (b 7), .int (m9), .int (m10), .int (zI ((((encF xs q).length : Nat) : Int))), .ref (b 8), .int (zI (((xs.length : Nat) : Int))), .ref (b 9), .int (m15), .int (m16), .int (m17), .ref (b 10), .ref (b 11), .ref (b 12), .ref (b 13)])), ((b 9), .inl (dA 2, 24, .inl fW))] H locs := hw
                  subst hq
                  refine lv_goto (tgt := 54) X.x X.b dX12_putFrames_50 (by decide) ?_
                  refine lv_istore_n (lv' := [(2, .int (zI (((blen (gap xs (8 * q + j)) : Nat) : Int)))), (0, .ref (b 0)), (1, .int (zI (((8 * q : Nat) : Int)))), (3, .int (zI (((8 * q + j : Nat) : Int))))]) X.x X.b dX12_putFrames_54 rfl hl (by decide) rfl (fun ls hl => ?_)
                  refine z_iinc (lv' := [(3, .int (zI (((8 * q + j : Nat) : Int) + 1))), (2, .int (zI (((blen (gap xs (8 * q + j)) : Nat) : Int)))), (0, .ref (b 0)), (1, .int (zI (((8 * q : Nat) : Int))))]) X dX12_putFrames_55 hl (k0 := 3) rfl (by decide) rfl (fun ls hl => ?_)
                  have hl : lv_has ls 4 [(3, .int (zI (((8 * q + (j + 1) : Nat) : Int)))), (2, .int (zI (((blen (gap xs (8 * q + j)) : Nat) : Int)))), (0, .ref (b 0)), (1, .int (zI (((8 * q : Nat) : Int))))] := by rw [show (((8 * q + (j + 1) : Nat) : Int) : Int) = ((8 * q + j : Nat) : Int) + 1 from by omega]; exact hl
                  refine lv_goto (tgt := 14) X.x X.b dX12_putFrames_58 (by decide) ?_
                  have hl : lv_has ls 4 [(3, .int (zI (((8 * q + (j + 1) : Nat) : Int)))), (2, .int (zI (((wM xs (8 * q) (j + 1) : Nat) : Int)))), (0, .ref (b 0)), (1, .int (zI (((8 * q : Nat) : Int))))] := by rw [show (((wM xs (8 * q) (j + 1) : Nat) : Int) : Int) = ((blen (gap xs (8 * q + j)) : Nat) : Int) from by rw [wM, if_pos (by omega)]]; exact hl
                  exact ih14  (j + 1) (by omega) (by omega) H locs (hw.sub [1, 2, 0] rfl rfl) ls (lv_sub hl [2, 3, 1, 0] rfl)
        exact B14 _ 0 (Nat.zero_le _) (Nat.lt_succ_self _) H locs hw ls (lv_sub hl [2, 3, 1, 0] rfl)
  exact B2 _ 0 f (by omega) (RowIs.nil f) (Nat.lt_succ_self _) H locs hw ls (lv_sub hl [1, 0] rfl)
set_option maxHeartbeats 4000000 in
/-- putSplit -/
theorem mm_putSplit (l : Launch) (hst : l.stackTraces = false) (D : va_G) (dA : Nat → ClassId) (b : Nat → Nat) (m0 m7 m9 m10 m11 m13 m15 m16 m17 : Int32) (xs : List Nat) (hv : Valid xs) (fW f : Nat → Int32) (hW : ArrIs xs fW) : pc_V l yX12_putSplit cX12_putSplit 3 (pc_rm 3 0 0) D dA [.ref (b 0)] [((b 0), .inr (10, [.int (m0), .ref (b 1), .ref (b 2), .ref (b 3), .ref (b 4), .ref (b 5), .ref (b 6), .int (m7), .ref (b 7), .int (m9), .int (m10), .int (zI 0), .ref (b 8), .int (zI (((xs.length : Nat) : Int))), .ref (b 9), .int (m15), .int (m16), .int (m17), .ref (b 10), .ref (b 11), .ref (b 12), .ref (b 13)])), ((b 9), .inl (dA 2, 24, .inl fW)), ((b 8), .inl (dA 3, 400, .inl f))] (fun f' : Nat → Int32 => RowIs (encS xs) f') (fun f' => [((b 0), .inr (10, [.int (m0), .ref (b 1), .ref (b 2), .ref (b 3), .ref (b 4), .ref (b 5), .ref (b 6), .int (m7), .ref (b 7), .int (m9), .int (m10), .int (zI ((((encS xs).length : Nat) : Int))), .ref (b 8), .int (zI (((xs.length : Nat) : Int))), .ref (b 9), .int (m15), .int (m16), .int (m17), .ref (b 10), .ref (b 11), .ref (b 12), .ref (b 13)])), ((b 9), .inl (dA 2, 24, .inl fW)), ((b 8), .inl (dA 3, 400, .inl f'))]) := by
  refine st_v hst (by decide) RX12 rfl (Nat.le_of_ble_eq_true rfl) ?_
  intro pg ev s mt args below meth cd R A Q hR X hin exit H locs hw ls hl
  subst hR
  have hl : lv_has ls 3 [(0, .ref (b 0))] := hl
  have hv1 := hv.1
  have hl12 := lowN_le xs.length
  have B18 : ∀ (_ : Unit) (H : Heap) (locs : List Loc), pc_S D A s.heap [((b 0), .inr (10, [.int (m0), .ref (b 1), .ref (b 2), .ref (b 3), .ref (b 4), .ref (b 5), .ref (b 6), .int (m7), .ref (b 7), .int (m9), .int (m10), .int (zI 0), .ref (b 8), .int (zI (((xs.length : Nat) : Int))), .ref (b 9), .int (m15), .int (m16), .int (m17), .ref (b 10), .ref (b 11), .ref (b 12), .ref (b 13)])), ((b 9), .inl (dA 2, 24, .inl fW)), ((b 8), .inl (dA 3, 400, .inl f))] H locs → ∀ ls : Array Slot, lv_has ls 3 [(0, .ref (b 0))] → W pg l ev (pc_rm 3 0 0) s mt args below meth cd H locs 0 0 Q (F0 mt 18 ls [.int (zI (((lowN xs.length : Nat) : Int)))]) := by
    intro _   H locs hw ls hl
    refine lv_istore_n (lv' := [(1, .int (zI (((lowN xs.length : Nat) : Int)))), (0, .ref (b 0))]) X.x X.b dX12_putSplit_18 rfl hl (by decide) rfl (fun ls hl => ?_)
    refine z_iconst X dX12_putSplit_19 ?_
    refine lv_istore_n (lv' := [(2, .int (zI 0)), (1, .int (zI (((lowN xs.length : Nat) : Int)))), (0, .ref (b 0))]) X.x X.b dX12_putSplit_20 rfl hl (by decide) rfl (fun ls hl => ?_)
    have B21 : ∀ (NN : Nat) (i : Nat) (f : Nat → Int32) (hi : i ≤ xs.length) (hf : RowIs (encS1 xs (lowN xs.length) i) f) (hNN : xs.length - i < NN) (H : Heap) (locs : List Loc), pc_S D A s.heap [((b 0), .inr (10, [.int (m0), .ref (b 1), .ref (b 2), .ref (b 3), .ref (b 4), .ref (b 5), .ref (b 6), .int (m7), .ref (b 7), .int (m9), .int (m10), .int (zI ((((encS1 xs (lowN xs.length) i).length : Nat) : Int))), .ref (b 8), .int (zI (((xs.length : Nat) : Int))), .ref (b 9), .int (m15), .int (m16), .int (m17), .ref (b 10), .ref (b 11), .ref (b 12), .ref (b 13)])), ((b 9), .inl (dA 2, 24, .inl fW)), ((b 8), .inl (dA 3, 400, .inl f))] H locs → ∀ ls : Array Slot, lv_has ls 3 [(0, .ref (b 0)), (1, .int (zI (((lowN xs.length : Nat) : Int)))), (2, .int (zI (((i : Nat) : Int))))] → W pg l ev (pc_rm 3 0 0) s mt args below meth cd H locs 0 0 Q (F0 mt 21 ls []) := by
      intro NN
      induction NN with
      | zero => intro i f hi hf hNN; exact absurd hNN (Nat.not_lt_zero _)
      | succ NN ih21 =>
        intro i f hi hf hNN H locs hw ls hl
        have hln := encS1_len xs (lowN xs.length) i
        have hml : i * (lowN xs.length) ≤ 24 * 12 := Nat.mul_le_mul (by omega) hl12
        refine lv_iload_n X.x X.b dX12_putSplit_21 rfl (lv_at hl 2 rfl) ?_
        refine lv_aload_n X.x X.b dX12_putSplit_22 rfl (lv_at hl 0 rfl) ?_
        refine z_get X hw in_X12 0 rfl rfl 13 (by decide) q677 rfl rfl dX12_putSplit_23 ?_
        refine z_icmp_ge (tgt := 46) X dX12_putSplit_26 (by decide) (by omega) (by omega) (fun c_1 => ?_) (fun c_1 => ?_)
        · skip
          have hi9 : i = xs.length := by omega
          rw [hi9] at hw hf hln
          refine z_iconst X dX12_putSplit_46 ?_
          refine lv_istore_n (lv' := [(2, .int (zI 0)), (0, .ref (b 0)), (1, .int (zI (((lowN xs.length : Nat) : Int))))]) X.x X.b dX12_putSplit_47 rfl hl (by decide) rfl (fun ls hl => ?_)
          have B48 : ∀ (NN : Nat) (i : Nat) (f : Nat → Int32) (hi : i ≤ xs.length) (hf : RowIs (encS1 xs (lowN xs.length) xs.length ++ encS2 xs (lowN xs.length) i) f) (hNN : xs.length - i < NN) (H : Heap) (locs : List Loc), pc_S D A s.heap [((b 0), .inr (10, [.int (m0), .ref (b 1), .ref (b 2), .ref (b 3), .ref (b 4), .ref (b 5), .ref (b 6), .int (m7), .ref (b 7), .int (m9), .int (m10), .int (zI ((((encS1 xs (lowN xs.length) xs.length ++ encS2 xs (lowN xs.length) i).length : Nat) : Int))), .ref (b 8), .int (zI (((xs.length : Nat) : Int))), .ref (b 9), .int (m15), .int (m16), .int (m17), .ref (b 10), .ref (b 11), .ref (b 12), .ref (b 13)])), ((b 9), .inl (dA 2, 24, .inl fW)), ((b 8), .inl (dA 3, 400, .inl f))] H locs → ∀ ls : Array Slot, lv_has ls 3 [(0, .ref (b 0)), (1, .int (zI (((lowN xs.length : Nat) : Int)))), (2, .int (zI (((i : Nat) : Int))))] → W pg l ev (pc_rm 3 0 0) s mt args below meth cd H locs 0 0 Q (F0 mt 48 ls []) := by
            intro NN
            induction NN with
            | zero => intro i f hi hf hNN; exact absurd hNN (Nat.not_lt_zero _)
            | succ NN ih48 =>
              intro i f hi hf hNN H locs hw ls hl
              have hl1 := encS1_len xs (lowN xs.length) xs.length
              have hm1 : xs.length * (lowN xs.length) ≤ 24 * 12 := Nat.mul_le_mul (by omega) hl12
              have hl2 := encS2_len hv (lowN xs.length) i hi
              refine lv_iload_n X.x X.b dX12_putSplit_48 rfl (lv_at hl 2 rfl) ?_
              refine lv_aload_n X.x X.b dX12_putSplit_49 rfl (lv_at hl 0 rfl) ?_
              refine z_get X hw in_X12 0 rfl rfl 13 (by decide) q677 rfl rfl dX12_putSplit_50 ?_
              refine z_icmp_ge (tgt := 100) X dX12_putSplit_53 (by decide) (by omega) (by omega) (fun c_2 => ?_) (fun c_2 => ?_)
              · skip
                have hi9 : i = xs.length := by omega
                rw [hi9] at hw hf
                exact exit f dX12_putSplit_100 hf hw (Nat.zero_le _) (Nat.zero_le _)
              · skip
                refine lv_aload_n X.x X.b dX12_putSplit_56 rfl (lv_at hl 0 rfl) ?_
                refine z_iconst X dX12_putSplit_57 ?_
                refine lv_aload_n X.x X.b dX12_putSplit_58 rfl (lv_at hl 0 rfl) ?_
                refine z_get X hw in_X12 0 rfl rfl 14 (by decide) q678 rfl rfl dX12_putSplit_59 ?_
                refine lv_iload_n X.x X.b dX12_putSplit_62 rfl (lv_at hl 2 rfl) ?_
                refine z_iald X hw 1 i rfl (by decide) (by omega) (v := zI ((xs.getD i 0 : Nat) : Int)) (hW _ (by omega)) dX12_putSplit_63 ?_
                have hx9 := hv.2.1 i (by omega)
                have hu9 : upS xs (lowN xs.length) i ≤ xs.getD i 0 := Nat.div_le_self _ _
                have hp9 := preS_le hv (l := (lowN xs.length)) (i := i) (by omega)
                refine lv_iload_n X.x X.b dX12_putSplit_64 rfl (lv_at hl 1 rfl) ?_
                refine lv_ishr X.x X.b dX12_putSplit_65 ?_
                refine top_i (y := zI ((upS xs (lowN xs.length) i : Nat) : Int)) (zI_shr (n := xs.getD i 0) (by omega) (k := (lowN xs.length)) (by omega)) ?_
                refine lv_iload_n X.x X.b dX12_putSplit_66 rfl (lv_at hl 2 rfl) ?_
                refine z_if_ne (tgt := 74) X dX12_putSplit_67 (by decide) (by omega) (fun c_3 => ?_) (fun c_3 => ?_)
                · skip
                  have hz9 : preS xs (lowN xs.length) i = upS xs (lowN xs.length) (i - 1) := if_neg (by omega)
                  have hy9 := hv.2.1 (i - 1) (by omega)
                  refine lv_aload_n X.x X.b dX12_putSplit_74 rfl (lv_at hl 0 rfl) ?_
                  refine z_get X hw in_X12 0 rfl rfl 14 (by decide) q678 rfl rfl dX12_putSplit_75 ?_
                  refine lv_iload_n X.x X.b dX12_putSplit_78 rfl (lv_at hl 2 rfl) ?_
                  refine z_iconst X dX12_putSplit_79 ?_
                  refine z_isub X dX12_putSplit_80 ?_
                  refine top_i (y := zI ((i - 1 : Nat) : Int)) (congrArg zI (by omega)) ?_
                  refine z_iald X hw 1 (i - 1) rfl (by decide) (by omega) (v := zI ((xs.getD (i - 1) 0 : Nat) : Int)) (hW _ (by omega)) dX12_putSplit_81 ?_
                  refine lv_iload_n X.x X.b dX12_putSplit_82 rfl (lv_at hl 1 rfl) ?_
                  refine lv_ishr X.x X.b dX12_putSplit_83 ?_
                  refine top_i (y := zI ((upS xs (lowN xs.length) (i - 1) : Nat) : Int)) (zI_shr (n := xs.getD (i - 1) 0) (by omega) (k := (lowN xs.length)) (by omega)) ?_
                  refine z_isub X dX12_putSplit_84 ?_
                  refine top_i (y := zI ((upS xs (lowN xs.length) i - preS xs (lowN xs.length) i : Nat) : Int)) (congrArg zI (by omega)) ?_
                  refine cv_v (c1 := 0) (s1 := 0) X hw [0, 2] [1] (wr := [((b 9), .inl (dA 2, 24, .inl fW))]) (va_runV (As := [.int (zI 0), .int (zI (((upS xs (lowN xs.length) i - preS xs (lowN xs.length) i : Nat) : Int)))]) (rest := []) X.fix (mm_putMany l hst D dA b m0 m7 m9 m10 (zI (((encS1 xs (lowN xs.length) xs.length ++ encS2 xs (lowN xs.length) i).length : Nat) : Int)) (zI ((xs.length : Nat) : Int)) m15 m16 m17 (encS1 xs (lowN xs.length) xs.length ++ encS2 xs (lowN xs.length) i) false (upS xs (lowN xs.length) i - preS xs (lowN xs.length) i) f hf (by first | omega | (simp only [List.length_append, pb_len, List.length_replicate]; omega)) _) (cwV 2 X.t (lw_V q792 q794 qs18 q48 q795) rfl rfl rfl (by decide +kernel) (pc_rmle (by decide) (by decide))) (pc_preV X hw [0, 2] rfl rfl 10 0 rfl rfl rfl) rfl rfl hl.1 rfl (lv_room (Nat.le_of_ble_eq_true rfl)) dX12_putSplit_85 ⟨Nat.le_of_ble_eq_true rfl, Nat.le_of_ble_eq_true rfl⟩) rfl rfl rfl rfl (fun _ _ => pc_c00) (fun u_5 H locs hq hw => ?_)
                  have hw : pc_S D A s.heap [((b 9), .inl (dA 2, 24, .inl fW)), ((b 0), .inr (10, [.int (m0), .ref (b 1), .ref (b 2), .ref (b 3), .ref (b 4), .ref (b 5), .ref (b 6), .int (m7), .ref (b 7), .int (m9), .int (m10), .int (zI (((((encS1 xs (lowN xs.length) xs.length ++ encS2 xs (lowN xs.length) i) ++ List.replicate (upS xs (lowN xs.length) i - preS xs (lowN xs.length) i) false).length : Nat) : Int))), .ref (b 8), .int (zI (((xs.length : Nat) : Int))), .ref (b 9), .int (m15), .int (m16), .int (m17), .ref (b 10), .ref (b 11), .ref (b 12), .ref (b 13)])), ((b 8), .inl (dA 3, 400, .inl u_5))] H locs := hw
                  have hu_5 := hq
                  refine lv_aload_n X.x X.b dX12_putSplit_88 rfl (lv_at hl 0 rfl) ?_
                  refine z_iconst X dX12_putSplit_89 ?_
                  refine z_iconst X dX12_putSplit_90 ?_
                  refine cv_v (c1 := 0) (s1 := 0) X hw [1, 2] [0] (wr := [((b 9), .inl (dA 2, 24, .inl fW))]) (va_runV (As := [.int (zI 1), .int (zI 1)]) (rest := []) X.fix (mm_put l hst D dA b m0 m7 m9 m10 (zI ((((encS1 xs (lowN xs.length) xs.length ++ encS2 xs (lowN xs.length) i) ++ List.replicate (upS xs (lowN xs.length) i - preS xs (lowN xs.length) i) false).length : Nat) : Int)) (zI ((xs.length : Nat) : Int)) m15 m16 m17 ((encS1 xs (lowN xs.length) xs.length ++ encS2 xs (lowN xs.length) i) ++ List.replicate (upS xs (lowN xs.length) i - preS xs (lowN xs.length) i) false) (zI 1) 1 u_5 hu_5 (by first | omega | (simp only [List.length_append, pb_len, List.length_replicate]; omega)) _) (cwV 2 X.t (lw_V q781 q783 qs16 q48 q784) rfl rfl rfl (by decide +kernel) (pc_rmle (by decide) (by decide))) (pc_preV X hw [1, 2] rfl rfl 10 1 rfl rfl rfl) rfl rfl hl.1 rfl (lv_room (Nat.le_of_ble_eq_true rfl)) dX12_putSplit_91 ⟨Nat.le_of_ble_eq_true rfl, Nat.le_of_ble_eq_true rfl⟩) rfl rfl rfl rfl (fun _ _ => pc_c00) (fun u_7 H locs hq hw => ?_)
                  have hw : pc_S D A s.heap [((b 9), .inl (dA 2, 24, .inl fW)), ((b 0), .inr (10, [.int (m0), .ref (b 1), .ref (b 2), .ref (b 3), .ref (b 4), .ref (b 5), .ref (b 6), .int (m7), .ref (b 7), .int (m9), .int (m10), .int (zI ((((((encS1 xs (lowN xs.length) xs.length ++ encS2 xs (lowN xs.length) i) ++ List.replicate (upS xs (lowN xs.length) i - preS xs (lowN xs.length) i) false) ++ pb (zI 1) 1).length : Nat) : Int))), .ref (b 8), .int (zI (((xs.length : Nat) : Int))), .ref (b 9), .int (m15), .int (m16), .int (m17), .ref (b 10), .ref (b 11), .ref (b 12), .ref (b 13)])), ((b 8), .inl (dA 3, 400, .inl u_7))] H locs := hw
                  have hu_7 := hq
                  refine z_iinc (lv' := [(2, .int (zI (((i : Nat) : Int) + 1))), (0, .ref (b 0)), (1, .int (zI (((lowN xs.length : Nat) : Int))))]) X dX12_putSplit_94 hl (k0 := 2) rfl (by decide) rfl (fun ls hl => ?_)
                  have hl : lv_has ls 3 [(2, .int (zI (((i + 1 : Nat) : Int)))), (0, .ref (b 0)), (1, .int (zI (((lowN xs.length : Nat) : Int))))] := by rw [show (((i + 1 : Nat) : Int) : Int) = ((i : Nat) : Int) + 1 from by omega]; exact hl
                  refine lv_goto (tgt := 48) X.x X.b dX12_putSplit_97 (by decide) ?_
                  have e9_8 : ((encS1 xs (lowN xs.length) xs.length ++ encS2 xs (lowN xs.length) i) ++ List.replicate (upS xs (lowN xs.length) i - preS xs (lowN xs.length) i) false) ++ pb (zI 1) 1 = encS1 xs (lowN xs.length) xs.length ++ encS2 xs (lowN xs.length) (i + 1) := by rw [encS2_succ, pb_zero]; simp only [List.append_assoc]
                  have hw : pc_S D A s.heap [((b 9), .inl (dA 2, 24, .inl fW)), ((b 0), .inr (10, [.int (m0), .ref (b 1), .ref (b 2), .ref (b 3), .ref (b 4), .ref (b 5), .ref (b 6), .int (m7), .ref (b 7), .int (m9), .int (m10), .int (zI ((((encS1 xs (lowN xs.length) xs.length ++ encS2 xs (lowN xs.length) (i + 1)).length : Nat) : Int))), .ref (b 8), .int (zI (((xs.length : Nat) : Int))), .ref (b 9), .int (m15), .int (m16), .int (m17), .ref (b 10), .ref (b 11), .ref (b 12), .ref (b 13)])), ((b 8), .inl (dA 3, 400, .inl u_7))] H locs := by rw [← e9_8]; exact hw
                  have hu_7 := fe9 hu_7 e9_8
                  exact ih48  (i + 1) u_7 (by omega) hu_7 (by omega) H locs (hw.sub [1, 0, 2] rfl rfl) ls (lv_sub hl [1, 2, 0] rfl)
                · skip
                  have hz9 : preS xs (lowN xs.length) i = 0 := if_pos (by omega)
                  refine z_iconst X dX12_putSplit_70 ?_
                  refine lv_goto (tgt := 84) X.x X.b dX12_putSplit_71 (by decide) ?_
                  refine z_isub X dX12_putSplit_84 ?_
                  refine top_i (y := zI ((upS xs (lowN xs.length) i - preS xs (lowN xs.length) i : Nat) : Int)) (congrArg zI (by omega)) ?_
                  refine cv_v (c1 := 0) (s1 := 0) X hw [0, 2] [1] (wr := [((b 9), .inl (dA 2, 24, .inl fW))]) (va_runV (As := [.int (zI 0), .int (zI (((upS xs (lowN xs.length) i - preS xs (lowN xs.length) i : Nat) : Int)))]) (rest := []) X.fix (mm_putMany l hst D dA b m0 m7 m9 m10 (zI (((encS1 xs (lowN xs.length) xs.length ++ encS2 xs (lowN xs.length) i).length : Nat) : Int)) (zI ((xs.length : Nat) : Int)) m15 m16 m17 (encS1 xs (lowN xs.length) xs.length ++ encS2 xs (lowN xs.length) i) false (upS xs (lowN xs.length) i - preS xs (lowN xs.length) i) f hf (by first | omega | (simp only [List.length_append, pb_len, List.length_replicate]; omega)) _) (cwV 2 X.t (lw_V q792 q794 qs18 q48 q795) rfl rfl rfl (by decide +kernel) (pc_rmle (by decide) (by decide))) (pc_preV X hw [0, 2] rfl rfl 10 0 rfl rfl rfl) rfl rfl hl.1 rfl (lv_room (Nat.le_of_ble_eq_true rfl)) dX12_putSplit_85 ⟨Nat.le_of_ble_eq_true rfl, Nat.le_of_ble_eq_true rfl⟩) rfl rfl rfl rfl (fun _ _ => pc_c00) (fun u_10 H locs hq hw => ?_)
                  have hw : pc_S D A s.heap [((b 9), .inl (dA 2, 24, .inl fW)), ((b 0), .inr (10, [.int (m0), .ref (b 1), .ref (b 2), .ref (b 3), .ref (b 4), .ref (b 5), .ref (b 6), .int (m7), .ref (b 7), .int (m9), .int (m10), .int (zI (((((encS1 xs (lowN xs.length) xs.length ++ encS2 xs (lowN xs.length) i) ++ List.replicate (upS xs (lowN xs.length) i - preS xs (lowN xs.length) i) false).length : Nat) : Int))), .ref (b 8), .int (zI (((xs.length : Nat) : Int))), .ref (b 9), .int (m15), .int (m16), .int (m17), .ref (b 10), .ref (b 11), .ref (b 12), .ref (b 13)])), ((b 8), .inl (dA 3, 400, .inl u_10))] H locs := hw
                  have hu_10 := hq
                  refine lv_aload_n X.x X.b dX12_putSplit_88 rfl (lv_at hl 0 rfl) ?_
                  refine z_iconst X dX12_putSplit_89 ?_
                  refine z_iconst X dX12_putSplit_90 ?_
                  refine cv_v (c1 := 0) (s1 := 0) X hw [1, 2] [0] (wr := [((b 9), .inl (dA 2, 24, .inl fW))]) (va_runV (As := [.int (zI 1), .int (zI 1)]) (rest := []) X.fix (mm_put l hst D dA b m0 m7 m9 m10 (zI ((((encS1 xs (lowN xs.length) xs.length ++ encS2 xs (lowN xs.length) i) ++ List.replicate (upS xs (lowN xs.length) i - preS xs (lowN xs.length) i) false).length : Nat) : Int)) (zI ((xs.length : Nat) : Int)) m15 m16 m17 ((encS1 xs (lowN xs.length) xs.length ++ encS2 xs (lowN xs.length) i) ++ List.replicate (upS xs (lowN xs.length) i - preS xs (lowN xs.length) i) false) (zI 1) 1 u_10 hu_10 (by first | omega | (simp only [List.length_append, pb_len, List.length_replicate]; omega)) _) (cwV 2 X.t (lw_V q781 q783 qs16 q48 q784) rfl rfl rfl (by decide +kernel) (pc_rmle (by decide) (by decide))) (pc_preV X hw [1, 2] rfl rfl 10 1 rfl rfl rfl) rfl rfl hl.1 rfl (lv_room (Nat.le_of_ble_eq_true rfl)) dX12_putSplit_91 ⟨Nat.le_of_ble_eq_true rfl, Nat.le_of_ble_eq_true rfl⟩) rfl rfl rfl rfl (fun _ _ => pc_c00) (fun u_12 H locs hq hw => ?_)
                  have hw : pc_S D A s.heap [((b 9), .inl (dA 2, 24, .inl fW)), ((b 0), .inr (10, [.int (m0), .ref (b 1), .ref (b 2), .ref (b 3), .ref (b 4), .ref (b 5), .ref (b 6), .int (m7), .ref (b 7), .int (m9), .int (m10), .int (zI ((((((encS1 xs (lowN xs.length) xs.length ++ encS2 xs (lowN xs.length) i) ++ List.replicate (upS xs (lowN xs.length) i - preS xs (lowN xs.length) i) false) ++ pb (zI 1) 1).length : Nat) : Int))), .ref (b 8), .int (zI (((xs.length : Nat) : Int))), .ref (b 9), .int (m15), .int (m16), .int (m17), .ref (b 10), .ref (b 11), .ref (b 12), .ref (b 13)])), ((b 8), .inl (dA 3, 400, .inl u_12))] H locs := hw
                  have hu_12 := hq
                  refine z_iinc (lv' := [(2, .int (zI (((i : Nat) : Int) + 1))), (0, .ref (b 0)), (1, .int (zI (((lowN xs.length : Nat) : Int))))]) X dX12_putSplit_94 hl (k0 := 2) rfl (by decide) rfl (fun ls hl => ?_)
                  have hl : lv_has ls 3 [(2, .int (zI (((i + 1 : Nat) : Int)))), (0, .ref (b 0)), (1, .int (zI (((lowN xs.length : Nat) : Int))))] := by rw [show (((i + 1 : Nat) : Int) : Int) = ((i : Nat) : Int) + 1 from by omega]; exact hl
                  refine lv_goto (tgt := 48) X.x X.b dX12_putSplit_97 (by decide) ?_
                  have e9_13 : ((encS1 xs (lowN xs.length) xs.length ++ encS2 xs (lowN xs.length) i) ++ List.replicate (upS xs (lowN xs.length) i - preS xs (lowN xs.length) i) false) ++ pb (zI 1) 1 = encS1 xs (lowN xs.length) xs.length ++ encS2 xs (lowN xs.length) (i + 1) := by rw [encS2_succ, pb_zero]; simp only [List.append_assoc]
                  have hw : pc_S D A s.heap [((b 9), .inl (dA 2, 24, .inl fW)), ((b 0), .inr (10, [.int (m0), .ref (b 1), .ref (b 2), .ref (b 3), .ref (b 4), .ref (b 5), .ref (b 6), .int (m7), .ref (b 7), .int (m9), .int (m10), .int (zI ((((encS1 xs (lowN xs.length) xs.length ++ encS2 xs (lowN xs.length) (i + 1)).length : Nat) : Int))), .ref (b 8), .int (zI (((xs.length : Nat) : Int))), .ref (b 9), .int (m15), .int (m16), .int (m17), .ref (b 10), .ref (b 11), .ref (b 12), .ref (b 13)])), ((b 8), .inl (dA 3, 400, .inl u_12))] H locs := by rw [← e9_13]; exact hw
                  have hu_12 := fe9 hu_12 e9_13
                  exact ih48  (i + 1) u_12 (by omega) hu_12 (by omega) H locs (hw.sub [1, 0, 2] rfl rfl) ls (lv_sub hl [1, 2, 0] rfl)
          have e9_14 : encS1 xs (lowN xs.length) xs.length = encS1 xs (lowN xs.length) xs.length ++ encS2 xs (lowN xs.length) 0 := by simp [encS2]
          have hw : pc_S D A s.heap [((b 0), .inr (10, [.int (m0), .ref (b 1), .ref (b 2), .ref (b 3), .ref (b 4), .ref (b 5), .ref (b 6), .int (m7), .ref (b 7), .int (m9), .int (m10), .int (zI ((((encS1 xs (lowN xs.length) xs.length ++ encS2 xs (lowN xs.length) 0).length : Nat) : Int))), .ref (b 8), .int (zI (((xs.length : Nat) : Int))), .ref (b 9), .int (m15), .int (m16), .int (m17), .ref (b 10), .ref (b 11), .ref (b 12), .ref (b 13)])), ((b 9), .inl (dA 2, 24, .inl fW)), ((b 8), .inl (dA 3, 400, .inl f))] H locs := by rw [← e9_14]; exact hw
          have hf := fe9 hf e9_14
          exact B48 _ 0 f (Nat.zero_le _) hf (Nat.lt_succ_self _) H locs hw ls (lv_sub hl [1, 2, 0] rfl)
        · skip
          refine lv_aload_n X.x X.b dX12_putSplit_29 rfl (lv_at hl 0 rfl) ?_
          refine lv_aload_n X.x X.b dX12_putSplit_30 rfl (lv_at hl 0 rfl) ?_
          refine z_get X hw in_X12 0 rfl rfl 14 (by decide) q678 rfl rfl dX12_putSplit_31 ?_
          refine lv_iload_n X.x X.b dX12_putSplit_34 rfl (lv_at hl 2 rfl) ?_
          refine z_iald X hw 1 i rfl (by decide) (by omega) (v := zI ((xs.getD i 0 : Nat) : Int)) (hW _ (by omega)) dX12_putSplit_35 ?_
          refine lv_iload_n X.x X.b dX12_putSplit_36 rfl (lv_at hl 1 rfl) ?_
          refine cv_v (c1 := 0) (s1 := 0) X hw [0, 2] [1] (wr := [((b 9), .inl (dA 2, 24, .inl fW))]) (va_runV (As := [.int (zI (((xs.getD i 0 : Nat) : Int))), .int (zI (((lowN xs.length : Nat) : Int)))]) (rest := []) X.fix (mm_put l hst D dA b m0 m7 m9 m10 (zI (((encS1 xs (lowN xs.length) i).length : Nat) : Int)) (zI ((xs.length : Nat) : Int)) m15 m16 m17 (encS1 xs (lowN xs.length) i) (zI ((xs.getD i 0 : Nat) : Int)) (lowN xs.length) f hf (by first | omega | (simp only [List.length_append, pb_len, List.length_replicate]; omega)) _) (cwV 2 X.t (lw_V q781 q783 qs16 q48 q784) rfl rfl rfl (by decide +kernel) (pc_rmle (by decide) (by decide))) (pc_preV X hw [0, 2] rfl rfl 10 0 rfl rfl rfl) rfl rfl hl.1 rfl (lv_room (Nat.le_of_ble_eq_true rfl)) dX12_putSplit_37 ⟨Nat.le_of_ble_eq_true rfl, Nat.le_of_ble_eq_true rfl⟩) rfl rfl rfl rfl (fun _ _ => pc_c00) (fun u_16 H locs hq hw => ?_)
          have hw : pc_S D A s.heap [((b 9), .inl (dA 2, 24, .inl fW)), ((b 0), .inr (10, [.int (m0), .ref (b 1), .ref (b 2), .ref (b 3), .ref (b 4), .ref (b 5), .ref (b 6), .int (m7), .ref (b 7), .int (m9), .int (m10), .int (zI (((((encS1 xs (lowN xs.length) i) ++ pb (zI ((xs.getD i 0 : Nat) : Int)) (lowN xs.length)).length : Nat) : Int))), .ref (b 8), .int (zI (((xs.length : Nat) : Int))), .ref (b 9), .int (m15), .int (m16), .int (m17), .ref (b 10), .ref (b 11), .ref (b 12), .ref (b 13)])), ((b 8), .inl (dA 3, 400, .inl u_16))] H locs := hw
          have hu_16 := hq
          refine z_iinc (lv' := [(2, .int (zI (((i : Nat) : Int) + 1))), (0, .ref (b 0)), (1, .int (zI (((lowN xs.length : Nat) : Int))))]) X dX12_putSplit_40 hl (k0 := 2) rfl (by decide) rfl (fun ls hl => ?_)
          have hl : lv_has ls 3 [(2, .int (zI (((i + 1 : Nat) : Int)))), (0, .ref (b 0)), (1, .int (zI (((lowN xs.length : Nat) : Int))))] := by rw [show (((i + 1 : Nat) : Int) : Int) = ((i : Nat) : Int) + 1 from by omega]; exact hl
          refine lv_goto (tgt := 21) X.x X.b dX12_putSplit_43 (by decide) ?_
          have e9_17 : (encS1 xs (lowN xs.length) i) ++ pb (zI ((xs.getD i 0 : Nat) : Int)) (lowN xs.length) = encS1 xs (lowN xs.length) (i + 1) := (encS1_succ _ _ _).symm
          have hw : pc_S D A s.heap [((b 9), .inl (dA 2, 24, .inl fW)), ((b 0), .inr (10, [.int (m0), .ref (b 1), .ref (b 2), .ref (b 3), .ref (b 4), .ref (b 5), .ref (b 6), .int (m7), .ref (b 7), .int (m9), .int (m10), .int (zI ((((encS1 xs (lowN xs.length) (i + 1)).length : Nat) : Int))), .ref (b 8), .int (zI (((xs.length : Nat) : Int))), .ref (b 9), .int (m15), .int (m16), .int (m17), .ref (b 10), .ref (b 11), .ref (b 12), .ref (b 13)])), ((b 8), .inl (dA 3, 400, .inl u_16))] H locs := by rw [← e9_17]; exact hw
          have hu_16 := fe9 hu_16 e9_17
          exact ih21  (i + 1) u_16 (by omega) hu_16 (by omega) H locs (hw.sub [1, 0, 2] rfl rfl) ls (lv_sub hl [1, 2, 0] rfl)
    exact B21 _ 0 f (Nat.zero_le _) (RowIs.nil f) (Nat.lt_succ_self _) H locs hw ls (lv_sub hl [2, 1, 0] rfl)
  refine lv_aload_n X.x X.b dX12_putSplit_0 rfl (lv_at hl 0 rfl) ?_
  refine z_get X hw in_X12 0 rfl rfl 13 (by decide) q677 rfl rfl dX12_putSplit_1 ?_
  refine z_if_le (tgt := 17) X dX12_putSplit_4 (by decide) (by omega) (fun c_18 => ?_) (fun c_18 => ?_)
  · skip
    refine z_iconst X dX12_putSplit_17 ?_
    refine top_i (y := zI ((lowN xs.length : Nat) : Int)) (by rw [show xs.length = 0 from by omega]; rfl) ?_
    exact B18 ()    H locs hw ls (lv_sub hl [0] rfl)
  · skip
    refine lv_aload_n X.x X.b dX12_putSplit_7 rfl (lv_at hl 0 rfl) ?_
    refine z_get X hw in_X12 0 rfl rfl 13 (by decide) q677 rfl rfl dX12_putSplit_8 ?_
    refine cv_i (c1 := 0) (s1 := 0) X hw [] [0, 1, 2] (wr := [((b 0), .inr (10, [.int (m0), .ref (b 1), .ref (b 2), .ref (b 3), .ref (b 4), .ref (b 5), .ref (b 6), .int (m7), .ref (b 7), .int (m9), .int (m10), .int (zI 0), .ref (b 8), .int (zI (((xs.length : Nat) : Int))), .ref (b 9), .int (m15), .int (m16), .int (m17), .ref (b 10), .ref (b 11), .ref (b 12), .ref (b 13)])), ((b 9), .inl (dA 2, 24, .inl fW)), ((b 8), .inl (dA 3, 400, .inl f))]) (va_runS (As := [.int (zI (((xs.length : Nat) : Int)))]) (rest := []) X.fix (mm_splitAt l hst D dA xs.length (by omega) (by omega) _) (va_cwS 1 X.t (lw_S q789 q790 q48 q791) rfl rfl rfl (by decide +kernel) (pc_rmle (by decide) (by decide))) (pc_preS X hw [] rfl rfl) rfl rfl hl.1 rfl (lv_room (Nat.le_of_ble_eq_true rfl)) dX12_putSplit_11 ⟨Nat.le_of_ble_eq_true rfl, Nat.le_of_ble_eq_true rfl⟩) rfl rfl rfl rfl (fun _ _ _ => pc_c00) (fun r_19 u_20 H locs hq hw => ?_)
    have hw : pc_S D A s.heap [((b 0), .inr (10, [.int (m0), .ref (b 1), .ref (b 2), .ref (b 3), .ref (b 4), .ref (b 5), .ref (b 6), .int (m7), .ref (b 7), .int (m9), .int (m10), .int (zI 0), .ref (b 8), .int (zI (((xs.length : Nat) : Int))), .ref (b 9), .int (m15), .int (m16), .int (m17), .ref (b 10), .ref (b 11), .ref (b 12), .ref (b 13)])), ((b 9), .inl (dA 2, 24, .inl fW)), ((b 8), .inl (dA 3, 400, .inl f))] H locs := hw
    subst hq
    refine lv_goto (tgt := 18) X.x X.b dX12_putSplit_14 (by decide) ?_
    exact B18 ()    H locs hw ls (lv_sub hl [0] rfl)
set_option maxHeartbeats 4000000 in
/-- putMiddles -/
theorem mm_putMiddles (l : Launch) (hst : l.stackTraces = false) (D : va_G) (dA : Nat → ClassId) (b : Nat → Nat) (m0 m7 m9 m10 m11 m13 m15 m16 m17 : Int32) (xs : List Nat) (hv : Valid xs) (fW f : Nat → Int32) (hW : ArrIs xs fW) (f1 f2 f3 f4 : Nat → Int32) : pc_V l yX12_putMiddles cX12_putMiddles 11 (pc_rm 3 0 0) D dA [.ref (b 0)] [((b 0), .inr (10, [.int (m0), .ref (b 1), .ref (b 2), .ref (b 3), .ref (b 4), .ref (b 5), .ref (b 6), .int (m7), .ref (b 7), .int (m9), .int (m10), .int (zI 0), .ref (b 8), .int (zI (((xs.length : Nat) : Int))), .ref (b 9), .int (m15), .int (m16), .int (m17), .ref (b 10), .ref (b 11), .ref (b 12), .ref (b 13)])), ((b 9), .inl (dA 2, 24, .inl fW)), ((b 8), .inl (dA 3, 400, .inl f)), ((b 10), .inl (dA 2, 30, .inl f1)), ((b 11), .inl (dA 2, 30, .inl f2)), ((b 12), .inl (dA 2, 30, .inl f3)), ((b 13), .inl (dA 2, 30, .inl f4))] (fun u : (Nat → Int32) × (Nat → Int32) × (Nat → Int32) × (Nat → Int32) × (Nat → Int32) => RowIs (encM xs 5 xs.length 0 0 4096) u.1) (fun u => [((b 0), .inr (10, [.int (m0), .ref (b 1), .ref (b 2), .ref (b 3), .ref (b 4), .ref (b 5), .ref (b 6), .int (m7), .ref (b 7), .int (m9), .int (m10), .int (zI ((((encM xs 5 xs.length 0 0 4096).length : Nat) : Int))), .ref (b 8), .int (zI (((xs.length : Nat) : Int))), .ref (b 9), .int (m15), .int (m16), .int (zI 0), .ref (b 10), .ref (b 11), .ref (b 12), .ref (b 13)])), ((b 9), .inl (dA 2, 24, .inl fW)), ((b 8), .inl (dA 3, 400, .inl u.1)), ((b 10), .inl (dA 2, 30, .inl u.2.1)), ((b 11), .inl (dA 2, 30, .inl u.2.2.1)), ((b 12), .inl (dA 2, 30, .inl u.2.2.2.1)), ((b 13), .inl (dA 2, 30, .inl u.2.2.2.2))]) := by
  refine st_v hst (by decide) RX12 rfl (Nat.le_of_ble_eq_true rfl) ?_
  intro pg ev s mt args below meth cd R A Q hR X hin exit H locs hw ls hl
  subst hR
  have hl : lv_has ls 11 [(0, .ref (b 0))] := hl
  have hv1 := hv.1
  have hall := valid_all hv
  refine lv_aload_n X.x X.b dX12_putMiddles_0 rfl (lv_at hl 0 rfl) ?_
  refine z_iconst X dX12_putMiddles_1 ?_
  refine z_put X hw in_X12 tyX12 tyX12_ok nmX12 0 rfl rfl 17 (by decide) q681 rfl rfl rfl rfl (Nat.le_of_ble_eq_true rfl) dX12_putMiddles_2 (fun H locs hw => ?_)
  have hw : pc_S D A s.heap [((b 0), .inr (10, [.int (m0), .ref (b 1), .ref (b 2), .ref (b 3), .ref (b 4), .ref (b 5), .ref (b 6), .int (m7), .ref (b 7), .int (m9), .int (m10), .int (zI 0), .ref (b 8), .int (zI (((xs.length : Nat) : Int))), .ref (b 9), .int (m15), .int (m16), .int (zI 0), .ref (b 10), .ref (b 11), .ref (b 12), .ref (b 13)])), ((b 9), .inl (dA 2, 24, .inl fW)), ((b 8), .inl (dA 3, 400, .inl f)), ((b 10), .inl (dA 2, 30, .inl f1)), ((b 11), .inl (dA 2, 30, .inl f2)), ((b 12), .inl (dA 2, 30, .inl f3)), ((b 13), .inl (dA 2, 30, .inl f4))] H locs := hw
  refine lv_aload_n X.x X.b dX12_putMiddles_5 rfl (lv_at hl 0 rfl) ?_
  refine z_iconst X dX12_putMiddles_6 ?_
  refine lv_aload_n X.x X.b dX12_putMiddles_7 rfl (lv_at hl 0 rfl) ?_
  refine z_get X hw in_X12 0 rfl rfl 13 (by decide) q677 rfl rfl dX12_putMiddles_8 ?_
  refine z_iconst X dX12_putMiddles_11 ?_
  refine z_sipush X dX12_putMiddles_12 (by decide) ?_
  refine cv_v (c1 := 0) (s1 := 0) X hw [0, 3, 4, 5, 6] [1, 2] (wr := [((b 9), .inl (dA 2, 24, .inl fW)), ((b 8), .inl (dA 3, 400, .inl f))]) (va_runV (As := [.int (zI 0), .int (zI (((xs.length : Nat) : Int))), .int (zI 0), .int (zI 4095)]) (rest := []) X.fix (mm_later l hst D dA b m0 m7 m9 m10 (zI 0) (zI ((xs.length : Nat) : Int)) m15 m16 (zI 0) 0 (by omega) 0 ((xs.length : Nat) : Int) 0 4095 f1 f2 f3 f4 _) (cwV 4 X.t (lw_V q800 q802 qs20 q48 q803) rfl rfl rfl (by decide +kernel) (pc_rmle (by decide) (by decide))) (pc_preV X hw [0, 3, 4, 5, 6] rfl rfl 10 0 rfl rfl rfl) rfl rfl hl.1 rfl (lv_room (Nat.le_of_ble_eq_true rfl)) dX12_putMiddles_15 ⟨Nat.le_of_ble_eq_true rfl, Nat.le_of_ble_eq_true rfl⟩) rfl rfl rfl rfl (fun _ _ => pc_c00) (fun u_2 H locs hq hw => ?_)
  have hw : pc_S D A s.heap [((b 9), .inl (dA 2, 24, .inl fW)), ((b 8), .inl (dA 3, 400, .inl f)), ((b 0), .inr (10, [.int (m0), .ref (b 1), .ref (b 2), .ref (b 3), .ref (b 4), .ref (b 5), .ref (b 6), .int (m7), .ref (b 7), .int (m9), .int (m10), .int (zI 0), .ref (b 8), .int (zI (((xs.length : Nat) : Int))), .ref (b 9), .int (m15), .int (m16), .int (zI (((0 + 1 : Nat) : Int))), .ref (b 10), .ref (b 11), .ref (b 12), .ref (b 13)])), ((b 10), .inl (dA 2, 30, .inl (upd f1 0 (zI 0)))), ((b 11), .inl (dA 2, 30, .inl (upd f2 0 (zI ((xs.length : Nat) : Int))))), ((b 12), .inl (dA 2, 30, .inl (upd f3 0 (zI 0)))), ((b 13), .inl (dA 2, 30, .inl (upd f4 0 (zI 4095))))] H locs := hw
  have B18 : ∀ (NN : Nat) (fs : List MF) (cs : List Bool) (f f1 f2 f3 f4 : Nat → Int32) (hs : StkIs fs f1 f2 f3 f4) (hh : StkH fs) (hok : StkOK xs fs) (hc : cs ++ remM xs fs = encM xs 5 xs.length 0 0 4096) (hf : RowIs cs f) (hNN : StkM fs < NN) (H : Heap) (locs : List Loc), pc_S D A s.heap [((b 0), .inr (10, [.int (m0), .ref (b 1), .ref (b 2), .ref (b 3), .ref (b 4), .ref (b 5), .ref (b 6), .int (m7), .ref (b 7), .int (m9), .int (m10), .int (zI (((cs.length : Nat) : Int))), .ref (b 8), .int (zI (((xs.length : Nat) : Int))), .ref (b 9), .int (m15), .int (m16), .int (zI (((fs.length : Nat) : Int))), .ref (b 10), .ref (b 11), .ref (b 12), .ref (b 13)])), ((b 9), .inl (dA 2, 24, .inl fW)), ((b 8), .inl (dA 3, 400, .inl f)), ((b 10), .inl (dA 2, 30, .inl f1)), ((b 11), .inl (dA 2, 30, .inl f2)), ((b 12), .inl (dA 2, 30, .inl f3)), ((b 13), .inl (dA 2, 30, .inl f4))] H locs → ∀ ls : Array Slot, lv_has ls 11 [(0, .ref (b 0))] → W pg l ev (pc_rm 3 0 0) s mt args below meth cd H locs 0 0 Q (F0 mt 18 ls []) := by
    intro NN
    induction NN with
    | zero => intro fs cs f f1 f2 f3 f4 hs hh hok hc hf hNN; exact absurd hNN (Nat.not_lt_zero _)
    | succ NN ih18 =>
      intro fs cs f f1 f2 f3 f4 hs hh hok hc hf hNN H locs hw ls hl
      have hh1 := hh.1
      have hcl : cs.length ≤ 400 := by
        have h1 := congrArg List.length hc
        rw [List.length_append] at h1
        have h2 := encM_len xs 5 xs.length 0 0 4096 (by omega) (by omega) hall
        omega
      refine lv_aload_n X.x X.b dX12_putMiddles_18 rfl (lv_at hl 0 rfl) ?_
      refine z_get X hw in_X12 0 rfl rfl 17 (by decide) q681 rfl rfl dX12_putMiddles_19 ?_
      refine z_if_le (tgt := 201) X dX12_putMiddles_22 (by decide) (by omega) (fun c_3 => ?_) (fun c_3 => ?_)
      · skip
        obtain rfl : fs = [] := List.length_eq_zero_iff.mp (by omega)
        have e9_4 : cs = encM xs 5 xs.length 0 0 4096 := by rw [← hc]; simp [remM]
        have hw : pc_S D A s.heap [((b 0), .inr (10, [.int (m0), .ref (b 1), .ref (b 2), .ref (b 3), .ref (b 4), .ref (b 5), .ref (b 6), .int (m7), .ref (b 7), .int (m9), .int (m10), .int (zI ((((encM xs 5 xs.length 0 0 4096).length : Nat) : Int))), .ref (b 8), .int (zI (((xs.length : Nat) : Int))), .ref (b 9), .int (m15), .int (m16), .int (zI (((([] : List MF).length : Nat) : Int))), .ref (b 10), .ref (b 11), .ref (b 12), .ref (b 13)])), ((b 9), .inl (dA 2, 24, .inl fW)), ((b 8), .inl (dA 3, 400, .inl f)), ((b 10), .inl (dA 2, 30, .inl f1)), ((b 11), .inl (dA 2, 30, .inl f2)), ((b 12), .inl (dA 2, 30, .inl f3)), ((b 13), .inl (dA 2, 30, .inl f4))] H locs := by rw [← e9_4]; exact hw
        have hf := fe9 hf e9_4
        have hw : pc_S D A s.heap [((b 0), .inr (10, [.int (m0), .ref (b 1), .ref (b 2), .ref (b 3), .ref (b 4), .ref (b 5), .ref (b 6), .int (m7), .ref (b 7), .int (m9), .int (m10), .int (zI ((((encM xs 5 xs.length 0 0 4096).length : Nat) : Int))), .ref (b 8), .int (zI (((xs.length : Nat) : Int))), .ref (b 9), .int (m15), .int (m16), .int (zI 0), .ref (b 10), .ref (b 11), .ref (b 12), .ref (b 13)])), ((b 9), .inl (dA 2, 24, .inl fW)), ((b 8), .inl (dA 3, 400, .inl f)), ((b 10), .inl (dA 2, 30, .inl f1)), ((b 11), .inl (dA 2, 30, .inl f2)), ((b 12), .inl (dA 2, 30, .inl f3)), ((b 13), .inl (dA 2, 30, .inl f4))] H locs := by rw [show (0 : Int) = ((([] : List MF).length : Nat) : Int) from rfl]; exact hw
        exact exit (f, f1, f2, f3, f4) dX12_putMiddles_201 hf hw (Nat.zero_le _) (Nat.zero_le _)
      · skip
        obtain ⟨gs, ⟨fr, sz, lo, hi⟩, rfl⟩ : ∃ gs q, fs = gs ++ [q] := by
          rcases List.eq_nil_or_concat fs with e | ⟨gs, q, e⟩
          · rw [e] at c_3; exact absurd (show (([] : List MF).length : Int) ≤ 0 by decide) c_3
          · exact ⟨gs, q, by rw [e, List.concat_eq_append]⟩
        have hl9 : (gs ++ [((fr, sz, lo, hi) : MF)]).length = gs.length + 1 := by simp
        obtain ⟨ht1, ht2, ht3, ht4⟩ := hs.top
        dsimp only at ht1 ht2 ht3 ht4
        have hs2 := hs.pop
        obtain ⟨hh2, hg5, hsz⟩ := hh.pop
        dsimp only at hsz
        obtain ⟨hM, hhi⟩ := hok (fr, sz, lo, hi) (by simp)
        dsimp only at hM hhi
        have hok2 : StkOK xs gs := fun q hq => hok q (List.mem_append_left _ hq)
        rw [remM_snoc] at hc
        dsimp only at hc
        rw [StkM_push] at hNN
        dsimp only at hNN
        have hM1 := hM.1
        have hw : pc_S D A s.heap [((b 0), .inr (10, [.int (m0), .ref (b 1), .ref (b 2), .ref (b 3), .ref (b 4), .ref (b 5), .ref (b 6), .int (m7), .ref (b 7), .int (m9), .int (m10), .int (zI (((cs.length : Nat) : Int))), .ref (b 8), .int (zI (((xs.length : Nat) : Int))), .ref (b 9), .int (m15), .int (m16), .int (zI (((gs.length + 1 : Nat) : Int))), .ref (b 10), .ref (b 11), .ref (b 12), .ref (b 13)])), ((b 9), .inl (dA 2, 24, .inl fW)), ((b 8), .inl (dA 3, 400, .inl f)), ((b 10), .inl (dA 2, 30, .inl f1)), ((b 11), .inl (dA 2, 30, .inl f2)), ((b 12), .inl (dA 2, 30, .inl f3)), ((b 13), .inl (dA 2, 30, .inl f4))] H locs := by rw [show (((gs.length + 1 : Nat) : Int) : Int) = (((gs ++ [((fr, sz, lo, hi) : MF)]).length : Nat) : Int) from by omega]; exact hw
        refine lv_aload_n X.x X.b dX12_putMiddles_25 rfl (lv_at hl 0 rfl) ?_
        refine lv_dup X.x X.b dX12_putMiddles_26 rfl ?_
        refine z_get X hw in_X12 0 rfl rfl 17 (by decide) q681 rfl rfl dX12_putMiddles_27 ?_
        refine z_iconst X dX12_putMiddles_30 ?_
        refine z_isub X dX12_putMiddles_31 ?_
        refine top_i (y := zI ((gs.length : Nat) : Int)) (congrArg zI (by omega)) ?_
        refine z_put X hw in_X12 tyX12 tyX12_ok nmX12 0 rfl rfl 17 (by decide) q681 rfl rfl rfl rfl (Nat.le_of_ble_eq_true rfl) dX12_putMiddles_32 (fun H locs hw => ?_)
        have hw : pc_S D A s.heap [((b 0), .inr (10, [.int (m0), .ref (b 1), .ref (b 2), .ref (b 3), .ref (b 4), .ref (b 5), .ref (b 6), .int (m7), .ref (b 7), .int (m9), .int (m10), .int (zI (((cs.length : Nat) : Int))), .ref (b 8), .int (zI (((xs.length : Nat) : Int))), .ref (b 9), .int (m15), .int (m16), .int (zI (((gs.length : Nat) : Int))), .ref (b 10), .ref (b 11), .ref (b 12), .ref (b 13)])), ((b 9), .inl (dA 2, 24, .inl fW)), ((b 8), .inl (dA 3, 400, .inl f)), ((b 10), .inl (dA 2, 30, .inl f1)), ((b 11), .inl (dA 2, 30, .inl f2)), ((b 12), .inl (dA 2, 30, .inl f3)), ((b 13), .inl (dA 2, 30, .inl f4))] H locs := hw
        refine lv_aload_n X.x X.b dX12_putMiddles_35 rfl (lv_at hl 0 rfl) ?_
        refine z_get X hw in_X12 0 rfl rfl 18 (by decide) q682 rfl rfl dX12_putMiddles_36 ?_
        refine lv_aload_n X.x X.b dX12_putMiddles_39 rfl (lv_at hl 0 rfl) ?_
        refine z_get X hw in_X12 0 rfl rfl 17 (by decide) q681 rfl rfl dX12_putMiddles_40 ?_
        refine z_iald X hw 3 gs.length rfl (by decide) (by omega) (v := zI ((fr : Nat) : Int)) ht1 dX12_putMiddles_43 ?_
        refine lv_istore_n (lv' := [(1, .int (zI (((fr : Nat) : Int)))), (0, .ref (b 0))]) X.x X.b dX12_putMiddles_44 rfl hl (by decide) rfl (fun ls hl => ?_)
        refine lv_aload_n X.x X.b dX12_putMiddles_45 rfl (lv_at hl 1 rfl) ?_
        refine z_get X hw in_X12 0 rfl rfl 19 (by decide) q683 rfl rfl dX12_putMiddles_46 ?_
        refine lv_aload_n X.x X.b dX12_putMiddles_49 rfl (lv_at hl 1 rfl) ?_
        refine z_get X hw in_X12 0 rfl rfl 17 (by decide) q681 rfl rfl dX12_putMiddles_50 ?_
        refine z_iald X hw 4 gs.length rfl (by decide) (by omega) (v := zI ((sz : Nat) : Int)) ht2 dX12_putMiddles_53 ?_
        refine lv_istore_n (lv' := [(2, .int (zI (((sz : Nat) : Int)))), (1, .int (zI (((fr : Nat) : Int)))), (0, .ref (b 0))]) X.x X.b dX12_putMiddles_54 rfl hl (by decide) rfl (fun ls hl => ?_)
        refine lv_aload_n X.x X.b dX12_putMiddles_55 rfl (lv_at hl 2 rfl) ?_
        refine z_get X hw in_X12 0 rfl rfl 20 (by decide) q684 rfl rfl dX12_putMiddles_56 ?_
        refine lv_aload_n X.x X.b dX12_putMiddles_59 rfl (lv_at hl 2 rfl) ?_
        refine z_get X hw in_X12 0 rfl rfl 17 (by decide) q681 rfl rfl dX12_putMiddles_60 ?_
        refine z_iald X hw 5 gs.length rfl (by decide) (by omega) (v := zI ((lo : Nat) : Int)) ht3 dX12_putMiddles_63 ?_
        refine lv_istore_n (lv' := [(3, .int (zI (((lo : Nat) : Int)))), (2, .int (zI (((sz : Nat) : Int)))), (1, .int (zI (((fr : Nat) : Int)))), (0, .ref (b 0))]) X.x X.b dX12_putMiddles_64 rfl hl (by decide) rfl (fun ls hl => ?_)
        refine lv_aload_n X.x X.b dX12_putMiddles_65 rfl (lv_at hl 3 rfl) ?_
        refine z_get X hw in_X12 0 rfl rfl 21 (by decide) q685 rfl rfl dX12_putMiddles_66 ?_
        refine lv_aload_n X.x X.b dX12_putMiddles_69 rfl (lv_at hl 3 rfl) ?_
        refine z_get X hw in_X12 0 rfl rfl 17 (by decide) q681 rfl rfl dX12_putMiddles_70 ?_
        refine z_iald X hw 6 gs.length rfl (by decide) (by omega) (v := zI (((hi : Nat) : Int) - 1)) ht4 dX12_putMiddles_73 ?_
        refine lv_istore (lv' := [(4, .int (zI (((hi : Nat) : Int) - 1))), (3, .int (zI (((lo : Nat) : Int)))), (2, .int (zI (((sz : Nat) : Int)))), (1, .int (zI (((fr : Nat) : Int)))), (0, .ref (b 0))]) X.x X.b dX12_putMiddles_74 hl (by decide) rfl (fun ls hl => ?_)
        refine lv_iload_n X.x X.b dX12_putMiddles_76 rfl (lv_at hl 2 rfl) ?_
        refine z_if_le (tgt := 198) X dX12_putMiddles_77 (by decide) (by omega) (fun c_5 => ?_) (fun c_5 => ?_)
        · skip
          have hz0 : sz = 0 := by omega
          refine lv_goto (tgt := 18) X.x X.b dX12_putMiddles_198 (by decide) ?_
          exact ih18  gs cs f f1 f2 f3 f4 hs2 hh2 hok2 (by rw [← hc, hz0]; simp [encM]) hf (by omega) H locs hw ls (lv_sub hl [4] rfl)
        · skip
          have hs32 : sz < 32 := by
            have : 2 ^ (5 - gs.length) ≤ 2 ^ 5 := Nat.pow_le_pow_right (by decide) (by omega)
            omega
          have hsp : 0 < sz := by omega
          obtain ⟨hr1, hr2, hr3, hr4⟩ := mid_rng hM hsp
          have hmd : sz / 2 < sz := by omega
          have h13 : blen (hi - lo - sz + 1 - 1) ≤ 13 := blen_max (by omega)
          have hp13 : 2 ^ blen (hi - lo - sz + 1 - 1) ≤ 2 ^ 13 := Nat.pow_le_pow_right (by decide) h13
          have hrb := pm_b (r := hi - lo - sz + 1) (by omega)
          refine lv_iload_n X.x X.b dX12_putMiddles_80 rfl (lv_at hl 2 rfl) ?_
          refine z_iconst X dX12_putMiddles_81 ?_
          refine lv_idiv X.x X.b dX12_putMiddles_82 (by decide) ?_
          refine top_i (y := zI ((sz / 2 : Nat) : Int)) (zI_div (n := sz) (by omega) (d := 2) (by omega)) ?_
          refine lv_istore (lv' := [(5, .int (zI (((sz / 2 : Nat) : Int)))), (4, .int (zI (((hi : Nat) : Int) - 1))), (3, .int (zI (((lo : Nat) : Int)))), (2, .int (zI (((sz : Nat) : Int)))), (1, .int (zI (((fr : Nat) : Int)))), (0, .ref (b 0))]) X.x X.b dX12_putMiddles_83 hl (by decide) rfl (fun ls hl => ?_)
          refine lv_aload_n X.x X.b dX12_putMiddles_85 rfl (lv_at hl 5 rfl) ?_
          refine z_get X hw in_X12 0 rfl rfl 14 (by decide) q678 rfl rfl dX12_putMiddles_86 ?_
          refine lv_iload_n X.x X.b dX12_putMiddles_89 rfl (lv_at hl 4 rfl) ?_
          refine lv_iload X.x X.b dX12_putMiddles_90 (lv_at hl 0 rfl) ?_
          refine z_iadd X dX12_putMiddles_92 ?_
          refine top_i (y := zI ((fr + (sz / 2) : Nat) : Int)) (congrArg zI (by omega)) ?_
          refine z_iald X hw 1 (fr + (sz / 2)) rfl (by decide) (by omega) (v := zI ((xs.getD (fr + sz / 2) 0 : Nat) : Int)) (hW _ (by omega)) dX12_putMiddles_93 ?_
          refine lv_istore (lv' := [(6, .int (zI (((xs.getD (fr + sz / 2) 0 : Nat) : Int)))), (5, .int (zI (((sz / 2 : Nat) : Int)))), (4, .int (zI (((hi : Nat) : Int) - 1))), (3, .int (zI (((lo : Nat) : Int)))), (2, .int (zI (((sz : Nat) : Int)))), (1, .int (zI (((fr : Nat) : Int)))), (0, .ref (b 0))]) X.x X.b dX12_putMiddles_94 hl (by decide) rfl (fun ls hl => ?_)
          refine lv_iload X.x X.b dX12_putMiddles_96 (lv_at hl 2 rfl) ?_
          refine lv_iload_n X.x X.b dX12_putMiddles_98 rfl (lv_at hl 3 rfl) ?_
          refine z_isub X dX12_putMiddles_99 ?_
          refine lv_iload_n X.x X.b dX12_putMiddles_100 rfl (lv_at hl 4 rfl) ?_
          refine z_isub X dX12_putMiddles_101 ?_
          refine z_iconst X dX12_putMiddles_102 ?_
          refine z_iadd X dX12_putMiddles_103 ?_
          refine top_i (y := zI ((hi - lo - sz + 1 : Nat) : Int)) (congrArg zI (by omega)) ?_
          refine lv_istore (lv' := [(7, .int (zI (((hi - lo - sz + 1 : Nat) : Int)))), (6, .int (zI (((xs.getD (fr + sz / 2) 0 : Nat) : Int)))), (5, .int (zI (((sz / 2 : Nat) : Int)))), (4, .int (zI (((hi : Nat) : Int) - 1))), (3, .int (zI (((lo : Nat) : Int)))), (2, .int (zI (((sz : Nat) : Int)))), (1, .int (zI (((fr : Nat) : Int)))), (0, .ref (b 0))]) X.x X.b dX12_putMiddles_104 hl (by decide) rfl (fun ls hl => ?_)
          refine lv_iload X.x X.b dX12_putMiddles_106 (lv_at hl 0 rfl) ?_
          refine z_iconst X dX12_putMiddles_108 ?_
          refine z_isub X dX12_putMiddles_109 ?_
          refine top_i (y := zI ((hi - lo - sz + 1 - 1 : Nat) : Int)) (congrArg zI (by omega)) ?_
          refine cv_i (c1 := 0) (s1 := 0) X hw [] [0, 1, 2, 3, 4, 5, 6] (wr := [((b 0), .inr (10, [.int (m0), .ref (b 1), .ref (b 2), .ref (b 3), .ref (b 4), .ref (b 5), .ref (b 6), .int (m7), .ref (b 7), .int (m9), .int (m10), .int (zI (((cs.length : Nat) : Int))), .ref (b 8), .int (zI (((xs.length : Nat) : Int))), .ref (b 9), .int (m15), .int (m16), .int (zI (((gs.length : Nat) : Int))), .ref (b 10), .ref (b 11), .ref (b 12), .ref (b 13)])), ((b 9), .inl (dA 2, 24, .inl fW)), ((b 8), .inl (dA 3, 400, .inl f)), ((b 10), .inl (dA 2, 30, .inl f1)), ((b 11), .inl (dA 2, 30, .inl f2)), ((b 12), .inl (dA 2, 30, .inl f3)), ((b 13), .inl (dA 2, 30, .inl f4))]) (va_runS (As := [.int (zI (((hi - lo - sz + 1 - 1 : Nat) : Int)))]) (rest := []) X.fix (mm_bits l hst D dA (hi - lo - sz + 1 - 1) (by omega) _) (va_cwS 1 X.t (lw_S q778 q779 q48 q780) rfl rfl rfl (by decide +kernel) (pc_rmle (by decide) (by decide))) (pc_preS X hw [] rfl rfl) rfl rfl hl.1 rfl (lv_room (Nat.le_of_ble_eq_true rfl)) dX12_putMiddles_110 ⟨Nat.le_of_ble_eq_true rfl, Nat.le_of_ble_eq_true rfl⟩) rfl rfl rfl rfl (fun _ _ _ => pc_c00) (fun r_6 u_7 H locs hq hw => ?_)
          have hw : pc_S D A s.heap [((b 0), .inr (10, [.int (m0), .ref (b 1), .ref (b 2), .ref (b 3), .ref (b 4), .ref (b 5), .ref (b 6), .int (m7), .ref (b 7), .int (m9), .int (m10), .int (zI (((cs.length : Nat) : Int))), .ref (b 8), .int (zI (((xs.length : Nat) : Int))), .ref (b 9), .int (m15), .int (m16), .int (zI (((gs.length : Nat) : Int))), .ref (b 10), .ref (b 11), .ref (b 12), .ref (b 13)])), ((b 9), .inl (dA 2, 24, .inl fW)), ((b 8), .inl (dA 3, 400, .inl f)), ((b 10), .inl (dA 2, 30, .inl f1)), ((b 11), .inl (dA 2, 30, .inl f2)), ((b 12), .inl (dA 2, 30, .inl f3)), ((b 13), .inl (dA 2, 30, .inl f4))] H locs := hw
          subst hq
          refine lv_istore (lv' := [(8, .int (zI (((blen (hi - lo - sz + 1 - 1) : Nat) : Int)))), (7, .int (zI (((hi - lo - sz + 1 : Nat) : Int)))), (6, .int (zI (((xs.getD (fr + sz / 2) 0 : Nat) : Int)))), (5, .int (zI (((sz / 2 : Nat) : Int)))), (4, .int (zI (((hi : Nat) : Int) - 1))), (3, .int (zI (((lo : Nat) : Int)))), (2, .int (zI (((sz : Nat) : Int)))), (1, .int (zI (((fr : Nat) : Int)))), (0, .ref (b 0))]) X.x X.b dX12_putMiddles_113 hl (by decide) rfl (fun ls hl => ?_)
          refine z_iconst X dX12_putMiddles_115 ?_
          refine lv_iload X.x X.b dX12_putMiddles_116 (lv_at hl 0 rfl) ?_
          refine lv_ishl X.x X.b dX12_putMiddles_118 ?_
          refine top_i (y := zI ((2 ^ (blen (hi - lo - sz + 1 - 1)) : Nat) : Int)) ((zI_shl (n := 1) (by omega) (k := blen (hi - lo - sz + 1 - 1)) (by omega) (by omega)).trans (congrArg (fun q : Nat => zI (q : Int)) (Nat.one_mul _))) ?_
          refine lv_iload X.x X.b dX12_putMiddles_119 (lv_at hl 1 rfl) ?_
          refine z_isub X dX12_putMiddles_121 ?_
          refine top_i (y := zI ((2 ^ (blen (hi - lo - sz + 1 - 1)) - (hi - lo - sz + 1) : Nat) : Int)) (congrArg zI (by omega)) ?_
          refine lv_istore (lv' := [(9, .int (zI (((2 ^ (blen (hi - lo - sz + 1 - 1)) - (hi - lo - sz + 1) : Nat) : Int)))), (8, .int (zI (((blen (hi - lo - sz + 1 - 1) : Nat) : Int)))), (7, .int (zI (((hi - lo - sz + 1 : Nat) : Int)))), (6, .int (zI (((xs.getD (fr + sz / 2) 0 : Nat) : Int)))), (5, .int (zI (((sz / 2 : Nat) : Int)))), (4, .int (zI (((hi : Nat) : Int) - 1))), (3, .int (zI (((lo : Nat) : Int)))), (2, .int (zI (((sz : Nat) : Int)))), (1, .int (zI (((fr : Nat) : Int)))), (0, .ref (b 0))]) X.x X.b dX12_putMiddles_122 hl (by decide) rfl (fun ls hl => ?_)
          refine lv_iload X.x X.b dX12_putMiddles_124 (lv_at hl 3 rfl) ?_
          refine lv_iload_n X.x X.b dX12_putMiddles_126 rfl (lv_at hl 6 rfl) ?_
          refine z_isub X dX12_putMiddles_127 ?_
          refine lv_iload X.x X.b dX12_putMiddles_128 (lv_at hl 4 rfl) ?_
          refine z_isub X dX12_putMiddles_130 ?_
          refine top_i (y := zI ((xs.getD (fr + sz / 2) 0 - (lo + sz / 2) : Nat) : Int)) (congrArg zI (by omega)) ?_
          refine lv_istore (lv' := [(10, .int (zI (((xs.getD (fr + sz / 2) 0 - (lo + sz / 2) : Nat) : Int)))), (9, .int (zI (((2 ^ (blen (hi - lo - sz + 1 - 1)) - (hi - lo - sz + 1) : Nat) : Int)))), (8, .int (zI (((blen (hi - lo - sz + 1 - 1) : Nat) : Int)))), (7, .int (zI (((hi - lo - sz + 1 : Nat) : Int)))), (6, .int (zI (((xs.getD (fr + sz / 2) 0 : Nat) : Int)))), (5, .int (zI (((sz / 2 : Nat) : Int)))), (4, .int (zI (((hi : Nat) : Int) - 1))), (3, .int (zI (((lo : Nat) : Int)))), (2, .int (zI (((sz : Nat) : Int)))), (1, .int (zI (((fr : Nat) : Int)))), (0, .ref (b 0))]) X.x X.b dX12_putMiddles_131 hl (by decide) rfl (fun ls hl => ?_)
          refine lv_iload X.x X.b dX12_putMiddles_133 (lv_at hl 0 rfl) ?_
          refine lv_iload X.x X.b dX12_putMiddles_135 (lv_at hl 1 rfl) ?_
          refine z_icmp_ge (tgt := 153) X dX12_putMiddles_137 (by decide) (by omega) (by omega) (fun c_8 => ?_) (fun c_8 => ?_)
          · skip
            refine lv_aload_n X.x X.b dX12_putMiddles_153 rfl (lv_at hl 10 rfl) ?_
            refine lv_iload X.x X.b dX12_putMiddles_154 (lv_at hl 0 rfl) ?_
            refine lv_iload X.x X.b dX12_putMiddles_156 (lv_at hl 1 rfl) ?_
            refine z_iadd X dX12_putMiddles_158 ?_
            refine top_i (y := zI (((xs.getD (fr + sz / 2) 0 - (lo + sz / 2)) + (2 ^ (blen (hi - lo - sz + 1 - 1)) - (hi - lo - sz + 1)) : Nat) : Int)) (congrArg zI (by omega)) ?_
            refine lv_iload X.x X.b dX12_putMiddles_159 (lv_at hl 2 rfl) ?_
            refine cv_v (c1 := 0) (s1 := 0) X hw [0, 2] [1, 3, 4, 5, 6] (wr := [((b 9), .inl (dA 2, 24, .inl fW)), ((b 10), .inl (dA 2, 30, .inl f1)), ((b 11), .inl (dA 2, 30, .inl f2)), ((b 12), .inl (dA 2, 30, .inl f3)), ((b 13), .inl (dA 2, 30, .inl f4))]) (va_runV (As := [.int (zI ((((xs.getD (fr + sz / 2) 0 - (lo + sz / 2)) + (2 ^ (blen (hi - lo - sz + 1 - 1)) - (hi - lo - sz + 1)) : Nat) : Int))), .int (zI (((blen (hi - lo - sz + 1 - 1) : Nat) : Int)))]) (rest := []) X.fix (mm_put l hst D dA b m0 m7 m9 m10 (zI ((cs.length : Nat) : Int)) (zI ((xs.length : Nat) : Int)) m15 m16 (zI ((gs.length : Nat) : Int)) cs (zI (((xs.getD (fr + sz / 2) 0 - (lo + sz / 2)) + (2 ^ (blen (hi - lo - sz + 1 - 1)) - (hi - lo - sz + 1)) : Nat) : Int)) (blen (hi - lo - sz + 1 - 1)) f hf (by omega) _) (cwV 2 X.t (lw_V q781 q783 qs16 q48 q784) rfl rfl rfl (by decide +kernel) (pc_rmle (by decide) (by decide))) (pc_preV X hw [0, 2] rfl rfl 10 0 rfl rfl rfl) rfl rfl hl.1 rfl (lv_room (Nat.le_of_ble_eq_true rfl)) dX12_putMiddles_161 ⟨Nat.le_of_ble_eq_true rfl, Nat.le_of_ble_eq_true rfl⟩) rfl rfl rfl rfl (fun _ _ => pc_c00) (fun u_10 H locs hq hw => ?_)
            have hw : pc_S D A s.heap [((b 9), .inl (dA 2, 24, .inl fW)), ((b 10), .inl (dA 2, 30, .inl f1)), ((b 11), .inl (dA 2, 30, .inl f2)), ((b 12), .inl (dA 2, 30, .inl f3)), ((b 13), .inl (dA 2, 30, .inl f4)), ((b 0), .inr (10, [.int (m0), .ref (b 1), .ref (b 2), .ref (b 3), .ref (b 4), .ref (b 5), .ref (b 6), .int (m7), .ref (b 7), .int (m9), .int (m10), .int (zI ((((cs ++ pb (zI (((xs.getD (fr + sz / 2) 0 - (lo + sz / 2)) + (2 ^ (blen (hi - lo - sz + 1 - 1)) - (hi - lo - sz + 1)) : Nat) : Int)) (blen (hi - lo - sz + 1 - 1))).length : Nat) : Int))), .ref (b 8), .int (zI (((xs.length : Nat) : Int))), .ref (b 9), .int (m15), .int (m16), .int (zI (((gs.length : Nat) : Int))), .ref (b 10), .ref (b 11), .ref (b 12), .ref (b 13)])), ((b 8), .inl (dA 3, 400, .inl u_10))] H locs := hw
            have hu_10 := hq
            refine lv_aload_n X.x X.b dX12_putMiddles_164 rfl (lv_at hl 10 rfl) ?_
            refine lv_iload_n X.x X.b dX12_putMiddles_165 rfl (lv_at hl 9 rfl) ?_
            refine lv_iload X.x X.b dX12_putMiddles_166 (lv_at hl 5 rfl) ?_
            refine z_iadd X dX12_putMiddles_168 ?_
            refine top_i (y := zI ((fr + (sz / 2) : Nat) : Int)) (congrArg zI (by omega)) ?_
            refine z_iconst X dX12_putMiddles_169 ?_
            refine z_iadd X dX12_putMiddles_170 ?_
            refine top_i (y := zI (((fr + (sz / 2)) + 1 : Nat) : Int)) (congrArg zI (by omega)) ?_
            refine lv_iload_n X.x X.b dX12_putMiddles_171 rfl (lv_at hl 8 rfl) ?_
            refine z_iconst X dX12_putMiddles_172 ?_
            refine z_isub X dX12_putMiddles_173 ?_
            refine top_i (y := zI ((sz - 1 : Nat) : Int)) (congrArg zI (by omega)) ?_
            refine lv_iload X.x X.b dX12_putMiddles_174 (lv_at hl 5 rfl) ?_
            refine z_isub X dX12_putMiddles_176 ?_
            refine top_i (y := zI ((sz - 1 - sz / 2 : Nat) : Int)) (congrArg zI (by omega)) ?_
            refine lv_iload X.x X.b dX12_putMiddles_177 (lv_at hl 4 rfl) ?_
            refine z_iconst X dX12_putMiddles_179 ?_
            refine z_iadd X dX12_putMiddles_180 ?_
            refine top_i (y := zI (((xs.getD (fr + sz / 2) 0) + 1 : Nat) : Int)) (congrArg zI (by omega)) ?_
            refine lv_iload X.x X.b dX12_putMiddles_181 (lv_at hl 6 rfl) ?_
            refine cv_v (c1 := 0) (s1 := 0) X hw [5, 1, 2, 3, 4] [0, 6] (wr := [((b 9), .inl (dA 2, 24, .inl fW)), ((b 8), .inl (dA 3, 400, .inl u_10))]) (va_runV (As := [.int (zI ((((fr + (sz / 2)) + 1 : Nat) : Int))), .int (zI (((sz - 1 - sz / 2 : Nat) : Int))), .int (zI ((((xs.getD (fr + sz / 2) 0) + 1 : Nat) : Int))), .int (zI (((hi : Nat) : Int) - 1))]) (rest := []) X.fix (mm_later l hst D dA b m0 m7 m9 m10 (zI (((cs ++ pb (zI (((xs.getD (fr + sz / 2) 0 - (lo + sz / 2)) + (2 ^ (blen (hi - lo - sz + 1 - 1)) - (hi - lo - sz + 1)) : Nat) : Int)) (blen (hi - lo - sz + 1 - 1))).length : Nat) : Int)) (zI ((xs.length : Nat) : Int)) m15 m16 (zI ((gs.length : Nat) : Int)) gs.length (by omega) (((fr + (sz / 2)) + 1 : Nat) : Int) ((sz - 1 - sz / 2 : Nat) : Int) (((xs.getD (fr + sz / 2) 0) + 1 : Nat) : Int) (((hi : Nat) : Int) - 1) f1 f2 f3 f4 _) (cwV 4 X.t (lw_V q800 q802 qs20 q48 q803) rfl rfl rfl (by decide +kernel) (pc_rmle (by decide) (by decide))) (pc_preV X hw [5, 1, 2, 3, 4] rfl rfl 10 5 rfl rfl rfl) rfl rfl hl.1 rfl (lv_room (Nat.le_of_ble_eq_true rfl)) dX12_putMiddles_183 ⟨Nat.le_of_ble_eq_true rfl, Nat.le_of_ble_eq_true rfl⟩) rfl rfl rfl rfl (fun _ _ => pc_c00) (fun u_12 H locs hq hw => ?_)
            have hw : pc_S D A s.heap [((b 9), .inl (dA 2, 24, .inl fW)), ((b 8), .inl (dA 3, 400, .inl u_10)), ((b 0), .inr (10, [.int (m0), .ref (b 1), .ref (b 2), .ref (b 3), .ref (b 4), .ref (b 5), .ref (b 6), .int (m7), .ref (b 7), .int (m9), .int (m10), .int (zI ((((cs ++ pb (zI (((xs.getD (fr + sz / 2) 0 - (lo + sz / 2)) + (2 ^ (blen (hi - lo - sz + 1 - 1)) - (hi - lo - sz + 1)) : Nat) : Int)) (blen (hi - lo - sz + 1 - 1))).length : Nat) : Int))), .ref (b 8), .int (zI (((xs.length : Nat) : Int))), .ref (b 9), .int (m15), .int (m16), .int (zI (((gs.length + 1 : Nat) : Int))), .ref (b 10), .ref (b 11), .ref (b 12), .ref (b 13)])), ((b 10), .inl (dA 2, 30, .inl (upd f1 gs.length (zI (((fr + (sz / 2)) + 1 : Nat) : Int))))), ((b 11), .inl (dA 2, 30, .inl (upd f2 gs.length (zI ((sz - 1 - sz / 2 : Nat) : Int))))), ((b 12), .inl (dA 2, 30, .inl (upd f3 gs.length (zI (((xs.getD (fr + sz / 2) 0) + 1 : Nat) : Int))))), ((b 13), .inl (dA 2, 30, .inl (upd f4 gs.length (zI (((hi : Nat) : Int) - 1)))))] H locs := hw
            refine lv_aload_n X.x X.b dX12_putMiddles_186 rfl (lv_at hl 10 rfl) ?_
            refine lv_iload_n X.x X.b dX12_putMiddles_187 rfl (lv_at hl 9 rfl) ?_
            refine lv_iload X.x X.b dX12_putMiddles_188 (lv_at hl 5 rfl) ?_
            refine lv_iload_n X.x X.b dX12_putMiddles_190 rfl (lv_at hl 7 rfl) ?_
            refine lv_iload X.x X.b dX12_putMiddles_191 (lv_at hl 4 rfl) ?_
            refine z_iconst X dX12_putMiddles_193 ?_
            refine z_isub X dX12_putMiddles_194 ?_
            refine cv_v (c1 := 0) (s1 := 0) X hw [2, 3, 4, 5, 6] [0, 1] (wr := [((b 9), .inl (dA 2, 24, .inl fW)), ((b 8), .inl (dA 3, 400, .inl u_10))]) (va_runV (As := [.int (zI (((fr : Nat) : Int))), .int (zI (((sz / 2 : Nat) : Int))), .int (zI (((lo : Nat) : Int))), .int (zI (((xs.getD (fr + sz / 2) 0 : Nat) : Int) - 1))]) (rest := []) X.fix (mm_later l hst D dA b m0 m7 m9 m10 (zI (((cs ++ pb (zI (((xs.getD (fr + sz / 2) 0 - (lo + sz / 2)) + (2 ^ (blen (hi - lo - sz + 1 - 1)) - (hi - lo - sz + 1)) : Nat) : Int)) (blen (hi - lo - sz + 1 - 1))).length : Nat) : Int)) (zI ((xs.length : Nat) : Int)) m15 m16 (zI ((gs.length + 1 : Nat) : Int)) (gs.length + 1) (by omega) ((fr : Nat) : Int) ((sz / 2 : Nat) : Int) ((lo : Nat) : Int) (((xs.getD (fr + sz / 2) 0 : Nat) : Int) - 1) (upd f1 gs.length (zI (((fr + (sz / 2)) + 1 : Nat) : Int))) (upd f2 gs.length (zI ((sz - 1 - sz / 2 : Nat) : Int))) (upd f3 gs.length (zI (((xs.getD (fr + sz / 2) 0) + 1 : Nat) : Int))) (upd f4 gs.length (zI (((hi : Nat) : Int) - 1))) _) (cwV 4 X.t (lw_V q800 q802 qs20 q48 q803) rfl rfl rfl (by decide +kernel) (pc_rmle (by decide) (by decide))) (pc_preV X hw [2, 3, 4, 5, 6] rfl rfl 10 2 rfl rfl rfl) rfl rfl hl.1 rfl (lv_room (Nat.le_of_ble_eq_true rfl)) dX12_putMiddles_195 ⟨Nat.le_of_ble_eq_true rfl, Nat.le_of_ble_eq_true rfl⟩) rfl rfl rfl rfl (fun _ _ => pc_c00) (fun u_14 H locs hq hw => ?_)
            have hw : pc_S D A s.heap [((b 9), .inl (dA 2, 24, .inl fW)), ((b 8), .inl (dA 3, 400, .inl u_10)), ((b 0), .inr (10, [.int (m0), .ref (b 1), .ref (b 2), .ref (b 3), .ref (b 4), .ref (b 5), .ref (b 6), .int (m7), .ref (b 7), .int (m9), .int (m10), .int (zI ((((cs ++ pb (zI (((xs.getD (fr + sz / 2) 0 - (lo + sz / 2)) + (2 ^ (blen (hi - lo - sz + 1 - 1)) - (hi - lo - sz + 1)) : Nat) : Int)) (blen (hi - lo - sz + 1 - 1))).length : Nat) : Int))), .ref (b 8), .int (zI (((xs.length : Nat) : Int))), .ref (b 9), .int (m15), .int (m16), .int (zI ((((gs.length + 1) + 1 : Nat) : Int))), .ref (b 10), .ref (b 11), .ref (b 12), .ref (b 13)])), ((b 10), .inl (dA 2, 30, .inl (upd (upd f1 gs.length (zI (((fr + (sz / 2)) + 1 : Nat) : Int))) (gs.length + 1) (zI ((fr : Nat) : Int))))), ((b 11), .inl (dA 2, 30, .inl (upd (upd f2 gs.length (zI ((sz - 1 - sz / 2 : Nat) : Int))) (gs.length + 1) (zI ((sz / 2 : Nat) : Int))))), ((b 12), .inl (dA 2, 30, .inl (upd (upd f3 gs.length (zI (((xs.getD (fr + sz / 2) 0) + 1 : Nat) : Int))) (gs.length + 1) (zI ((lo : Nat) : Int))))), ((b 13), .inl (dA 2, 30, .inl (upd (upd f4 gs.length (zI (((hi : Nat) : Int) - 1))) (gs.length + 1) (zI (((xs.getD (fr + sz / 2) 0 : Nat) : Int) - 1)))))] H locs := hw
            refine lv_goto (tgt := 18) X.x X.b dX12_putMiddles_198 (by decide) ?_
            rw [encM_step xs hsp hs32] at hc
            have e9_15 : cs ++ pb (zI (((xs.getD (fr + sz / 2) 0 - (lo + sz / 2)) + (2 ^ (blen (hi - lo - sz + 1 - 1)) - (hi - lo - sz + 1)) : Nat) : Int)) (blen (hi - lo - sz + 1 - 1)) = cs ++ pm (xs.getD (fr + sz / 2) 0 - (lo + sz / 2)) (hi - lo - sz + 1) := by rw [pm, if_neg (by omega)]
            have hw : pc_S D A s.heap [((b 9), .inl (dA 2, 24, .inl fW)), ((b 8), .inl (dA 3, 400, .inl u_10)), ((b 0), .inr (10, [.int (m0), .ref (b 1), .ref (b 2), .ref (b 3), .ref (b 4), .ref (b 5), .ref (b 6), .int (m7), .ref (b 7), .int (m9), .int (m10), .int (zI ((((cs ++ pm (xs.getD (fr + sz / 2) 0 - (lo + sz / 2)) (hi - lo - sz + 1)).length : Nat) : Int))), .ref (b 8), .int (zI (((xs.length : Nat) : Int))), .ref (b 9), .int (m15), .int (m16), .int (zI ((((gs.length + 1) + 1 : Nat) : Int))), .ref (b 10), .ref (b 11), .ref (b 12), .ref (b 13)])), ((b 10), .inl (dA 2, 30, .inl (upd (upd f1 gs.length (zI (((fr + (sz / 2)) + 1 : Nat) : Int))) (gs.length + 1) (zI ((fr : Nat) : Int))))), ((b 11), .inl (dA 2, 30, .inl (upd (upd f2 gs.length (zI ((sz - 1 - sz / 2 : Nat) : Int))) (gs.length + 1) (zI ((sz / 2 : Nat) : Int))))), ((b 12), .inl (dA 2, 30, .inl (upd (upd f3 gs.length (zI (((xs.getD (fr + sz / 2) 0) + 1 : Nat) : Int))) (gs.length + 1) (zI ((lo : Nat) : Int))))), ((b 13), .inl (dA 2, 30, .inl (upd (upd f4 gs.length (zI (((hi : Nat) : Int) - 1))) (gs.length + 1) (zI (((xs.getD (fr + sz / 2) 0 : Nat) : Int) - 1)))))] H locs := by rw [← e9_15]; exact hw
            have hu_10 := fe9 hu_10 e9_15
            obtain ⟨hh3, hg4⟩ := hh2.push2 (q1 := ((fr + sz / 2 + 1, sz - 1 - sz / 2, xs.getD (fr + sz / 2) 0 + 1, hi) : MF)) (q2 := ((fr, sz / 2, lo, xs.getD (fr + sz / 2) 0) : MF)) hsp hsz hg5 rfl rfl
            have hs3 : StkIs (gs ++ [((fr + sz / 2 + 1, sz - 1 - sz / 2, xs.getD (fr + sz / 2) 0 + 1, hi) : MF)] ++ [((fr, sz / 2, lo, xs.getD (fr + sz / 2) 0) : MF)]) (upd (upd f1 gs.length (zI (((fr + (sz / 2)) + 1 : Nat) : Int))) (gs.length + 1) (zI ((fr : Nat) : Int))) (upd (upd f2 gs.length (zI ((sz - 1 - sz / 2 : Nat) : Int))) (gs.length + 1) (zI ((sz / 2 : Nat) : Int))) (upd (upd f3 gs.length (zI (((xs.getD (fr + sz / 2) 0) + 1 : Nat) : Int))) (gs.length + 1) (zI ((lo : Nat) : Int))) (upd (upd f4 gs.length (zI (((hi : Nat) : Int) - 1))) (gs.length + 1) (zI (((xs.getD (fr + sz / 2) 0 : Nat) : Int) - 1))) := (hs2.push rfl rfl rfl rfl rfl).push (by simp) rfl rfl rfl rfl
            have hw : pc_S D A s.heap [((b 9), .inl (dA 2, 24, .inl fW)), ((b 8), .inl (dA 3, 400, .inl u_10)), ((b 0), .inr (10, [.int (m0), .ref (b 1), .ref (b 2), .ref (b 3), .ref (b 4), .ref (b 5), .ref (b 6), .int (m7), .ref (b 7), .int (m9), .int (m10), .int (zI ((((cs ++ pm (xs.getD (fr + sz / 2) 0 - (lo + sz / 2)) (hi - lo - sz + 1)).length : Nat) : Int))), .ref (b 8), .int (zI (((xs.length : Nat) : Int))), .ref (b 9), .int (m15), .int (m16), .int (zI ((((gs ++ [((fr + sz / 2 + 1, sz - 1 - sz / 2, xs.getD (fr + sz / 2) 0 + 1, hi) : MF)] ++ [((fr, sz / 2, lo, xs.getD (fr + sz / 2) 0) : MF)]).length : Nat) : Int))), .ref (b 10), .ref (b 11), .ref (b 12), .ref (b 13)])), ((b 10), .inl (dA 2, 30, .inl (upd (upd f1 gs.length (zI (((fr + (sz / 2)) + 1 : Nat) : Int))) (gs.length + 1) (zI ((fr : Nat) : Int))))), ((b 11), .inl (dA 2, 30, .inl (upd (upd f2 gs.length (zI ((sz - 1 - sz / 2 : Nat) : Int))) (gs.length + 1) (zI ((sz / 2 : Nat) : Int))))), ((b 12), .inl (dA 2, 30, .inl (upd (upd f3 gs.length (zI (((xs.getD (fr + sz / 2) 0) + 1 : Nat) : Int))) (gs.length + 1) (zI ((lo : Nat) : Int))))), ((b 13), .inl (dA 2, 30, .inl (upd (upd f4 gs.length (zI (((hi : Nat) : Int) - 1))) (gs.length + 1) (zI (((xs.getD (fr + sz / 2) 0 : Nat) : Int) - 1)))))] H locs := by rw [show ((((gs ++ [((fr + sz / 2 + 1, sz - 1 - sz / 2, xs.getD (fr + sz / 2) 0 + 1, hi) : MF)] ++ [((fr, sz / 2, lo, xs.getD (fr + sz / 2) 0) : MF)]).length : Nat) : Int) : Int) = (((gs.length + 1) + 1 : Nat) : Int) from by simp; omega]; exact hw
            exact ih18  (gs ++ [((fr + sz / 2 + 1, sz - 1 - sz / 2, xs.getD (fr + sz / 2) 0 + 1, hi) : MF)] ++ [((fr, sz / 2, lo, xs.getD (fr + sz / 2) 0) : MF)]) (cs ++ pm (xs.getD (fr + sz / 2) 0 - (lo + sz / 2)) (hi - lo - sz + 1)) u_10 (upd (upd f1 gs.length (zI (((fr + (sz / 2)) + 1 : Nat) : Int))) (gs.length + 1) (zI ((fr : Nat) : Int))) (upd (upd f2 gs.length (zI ((sz - 1 - sz / 2 : Nat) : Int))) (gs.length + 1) (zI ((sz / 2 : Nat) : Int))) (upd (upd f3 gs.length (zI (((xs.getD (fr + sz / 2) 0) + 1 : Nat) : Int))) (gs.length + 1) (zI ((lo : Nat) : Int))) (upd (upd f4 gs.length (zI (((hi : Nat) : Int) - 1))) (gs.length + 1) (zI (((xs.getD (fr + sz / 2) 0 : Nat) : Int) - 1))) hs3 hh3 (stk_ok2 hv hok2 hM hhi hsp) (by rw [← hc, remM_snoc, remM_snoc]; simp only [List.append_assoc]) hu_10 (by rw [StkM_push, StkM_push]; dsimp only; omega) H locs (hw.sub [2, 0, 1, 3, 4, 5, 6] rfl rfl) ls (lv_sub hl [10] rfl)
          · skip
            have hb1 : 1 ≤ blen (hi - lo - sz + 1 - 1) := by
              rcases Nat.eq_zero_or_pos (blen (hi - lo - sz + 1 - 1)) with e | e
              · rw [e] at c_8; omega
              · exact e
            refine lv_aload_n X.x X.b dX12_putMiddles_140 rfl (lv_at hl 10 rfl) ?_
            refine lv_iload X.x X.b dX12_putMiddles_141 (lv_at hl 0 rfl) ?_
            refine lv_iload X.x X.b dX12_putMiddles_143 (lv_at hl 2 rfl) ?_
            refine z_iconst X dX12_putMiddles_145 ?_
            refine z_isub X dX12_putMiddles_146 ?_
            refine top_i (y := zI ((blen (hi - lo - sz + 1 - 1) - 1 : Nat) : Int)) (congrArg zI (by omega)) ?_
            refine cv_v (c1 := 0) (s1 := 0) X hw [0, 2] [1, 3, 4, 5, 6] (wr := [((b 9), .inl (dA 2, 24, .inl fW)), ((b 10), .inl (dA 2, 30, .inl f1)), ((b 11), .inl (dA 2, 30, .inl f2)), ((b 12), .inl (dA 2, 30, .inl f3)), ((b 13), .inl (dA 2, 30, .inl f4))]) (va_runV (As := [.int (zI (((xs.getD (fr + sz / 2) 0 - (lo + sz / 2) : Nat) : Int))), .int (zI (((blen (hi - lo - sz + 1 - 1) - 1 : Nat) : Int)))]) (rest := []) X.fix (mm_put l hst D dA b m0 m7 m9 m10 (zI ((cs.length : Nat) : Int)) (zI ((xs.length : Nat) : Int)) m15 m16 (zI ((gs.length : Nat) : Int)) cs (zI ((xs.getD (fr + sz / 2) 0 - (lo + sz / 2) : Nat) : Int)) (blen (hi - lo - sz + 1 - 1) - 1) f hf (by omega) _) (cwV 2 X.t (lw_V q781 q783 qs16 q48 q784) rfl rfl rfl (by decide +kernel) (pc_rmle (by decide) (by decide))) (pc_preV X hw [0, 2] rfl rfl 10 0 rfl rfl rfl) rfl rfl hl.1 rfl (lv_room (Nat.le_of_ble_eq_true rfl)) dX12_putMiddles_147 ⟨Nat.le_of_ble_eq_true rfl, Nat.le_of_ble_eq_true rfl⟩) rfl rfl rfl rfl (fun _ _ => pc_c00) (fun u_17 H locs hq hw => ?_)
            have hw : pc_S D A s.heap [((b 9), .inl (dA 2, 24, .inl fW)), ((b 10), .inl (dA 2, 30, .inl f1)), ((b 11), .inl (dA 2, 30, .inl f2)), ((b 12), .inl (dA 2, 30, .inl f3)), ((b 13), .inl (dA 2, 30, .inl f4)), ((b 0), .inr (10, [.int (m0), .ref (b 1), .ref (b 2), .ref (b 3), .ref (b 4), .ref (b 5), .ref (b 6), .int (m7), .ref (b 7), .int (m9), .int (m10), .int (zI ((((cs ++ pb (zI ((xs.getD (fr + sz / 2) 0 - (lo + sz / 2) : Nat) : Int)) (blen (hi - lo - sz + 1 - 1) - 1)).length : Nat) : Int))), .ref (b 8), .int (zI (((xs.length : Nat) : Int))), .ref (b 9), .int (m15), .int (m16), .int (zI (((gs.length : Nat) : Int))), .ref (b 10), .ref (b 11), .ref (b 12), .ref (b 13)])), ((b 8), .inl (dA 3, 400, .inl u_17))] H locs := hw
            have hu_17 := hq
            refine lv_goto (tgt := 164) X.x X.b dX12_putMiddles_150 (by decide) ?_
            refine lv_aload_n X.x X.b dX12_putMiddles_164 rfl (lv_at hl 10 rfl) ?_
            refine lv_iload_n X.x X.b dX12_putMiddles_165 rfl (lv_at hl 9 rfl) ?_
            refine lv_iload X.x X.b dX12_putMiddles_166 (lv_at hl 5 rfl) ?_
            refine z_iadd X dX12_putMiddles_168 ?_
            refine top_i (y := zI ((fr + (sz / 2) : Nat) : Int)) (congrArg zI (by omega)) ?_
            refine z_iconst X dX12_putMiddles_169 ?_
            refine z_iadd X dX12_putMiddles_170 ?_
            refine top_i (y := zI (((fr + (sz / 2)) + 1 : Nat) : Int)) (congrArg zI (by omega)) ?_
            refine lv_iload_n X.x X.b dX12_putMiddles_171 rfl (lv_at hl 8 rfl) ?_
            refine z_iconst X dX12_putMiddles_172 ?_
            refine z_isub X dX12_putMiddles_173 ?_
            refine top_i (y := zI ((sz - 1 : Nat) : Int)) (congrArg zI (by omega)) ?_
            refine lv_iload X.x X.b dX12_putMiddles_174 (lv_at hl 5 rfl) ?_
            refine z_isub X dX12_putMiddles_176 ?_
            refine top_i (y := zI ((sz - 1 - sz / 2 : Nat) : Int)) (congrArg zI (by omega)) ?_
            refine lv_iload X.x X.b dX12_putMiddles_177 (lv_at hl 4 rfl) ?_
            refine z_iconst X dX12_putMiddles_179 ?_
            refine z_iadd X dX12_putMiddles_180 ?_
            refine top_i (y := zI (((xs.getD (fr + sz / 2) 0) + 1 : Nat) : Int)) (congrArg zI (by omega)) ?_
            refine lv_iload X.x X.b dX12_putMiddles_181 (lv_at hl 6 rfl) ?_
            refine cv_v (c1 := 0) (s1 := 0) X hw [5, 1, 2, 3, 4] [0, 6] (wr := [((b 9), .inl (dA 2, 24, .inl fW)), ((b 8), .inl (dA 3, 400, .inl u_17))]) (va_runV (As := [.int (zI ((((fr + (sz / 2)) + 1 : Nat) : Int))), .int (zI (((sz - 1 - sz / 2 : Nat) : Int))), .int (zI ((((xs.getD (fr + sz / 2) 0) + 1 : Nat) : Int))), .int (zI (((hi : Nat) : Int) - 1))]) (rest := []) X.fix (mm_later l hst D dA b m0 m7 m9 m10 (zI (((cs ++ pb (zI ((xs.getD (fr + sz / 2) 0 - (lo + sz / 2) : Nat) : Int)) (blen (hi - lo - sz + 1 - 1) - 1)).length : Nat) : Int)) (zI ((xs.length : Nat) : Int)) m15 m16 (zI ((gs.length : Nat) : Int)) gs.length (by omega) (((fr + (sz / 2)) + 1 : Nat) : Int) ((sz - 1 - sz / 2 : Nat) : Int) (((xs.getD (fr + sz / 2) 0) + 1 : Nat) : Int) (((hi : Nat) : Int) - 1) f1 f2 f3 f4 _) (cwV 4 X.t (lw_V q800 q802 qs20 q48 q803) rfl rfl rfl (by decide +kernel) (pc_rmle (by decide) (by decide))) (pc_preV X hw [5, 1, 2, 3, 4] rfl rfl 10 5 rfl rfl rfl) rfl rfl hl.1 rfl (lv_room (Nat.le_of_ble_eq_true rfl)) dX12_putMiddles_183 ⟨Nat.le_of_ble_eq_true rfl, Nat.le_of_ble_eq_true rfl⟩) rfl rfl rfl rfl (fun _ _ => pc_c00) (fun u_19 H locs hq hw => ?_)
            have hw : pc_S D A s.heap [((b 9), .inl (dA 2, 24, .inl fW)), ((b 8), .inl (dA 3, 400, .inl u_17)), ((b 0), .inr (10, [.int (m0), .ref (b 1), .ref (b 2), .ref (b 3), .ref (b 4), .ref (b 5), .ref (b 6), .int (m7), .ref (b 7), .int (m9), .int (m10), .int (zI ((((cs ++ pb (zI ((xs.getD (fr + sz / 2) 0 - (lo + sz / 2) : Nat) : Int)) (blen (hi - lo - sz + 1 - 1) - 1)).length : Nat) : Int))), .ref (b 8), .int (zI (((xs.length : Nat) : Int))), .ref (b 9), .int (m15), .int (m16), .int (zI (((gs.length + 1 : Nat) : Int))), .ref (b 10), .ref (b 11), .ref (b 12), .ref (b 13)])), ((b 10), .inl (dA 2, 30, .inl (upd f1 gs.length (zI (((fr + (sz / 2)) + 1 : Nat) : Int))))), ((b 11), .inl (dA 2, 30, .inl (upd f2 gs.length (zI ((sz - 1 - sz / 2 : Nat) : Int))))), ((b 12), .inl (dA 2, 30, .inl (upd f3 gs.length (zI (((xs.getD (fr + sz / 2) 0) + 1 : Nat) : Int))))), ((b 13), .inl (dA 2, 30, .inl (upd f4 gs.length (zI (((hi : Nat) : Int) - 1)))))] H locs := hw
            refine lv_aload_n X.x X.b dX12_putMiddles_186 rfl (lv_at hl 10 rfl) ?_
            refine lv_iload_n X.x X.b dX12_putMiddles_187 rfl (lv_at hl 9 rfl) ?_
            refine lv_iload X.x X.b dX12_putMiddles_188 (lv_at hl 5 rfl) ?_
            refine lv_iload_n X.x X.b dX12_putMiddles_190 rfl (lv_at hl 7 rfl) ?_
            refine lv_iload X.x X.b dX12_putMiddles_191 (lv_at hl 4 rfl) ?_
            refine z_iconst X dX12_putMiddles_193 ?_
            refine z_isub X dX12_putMiddles_194 ?_
            refine cv_v (c1 := 0) (s1 := 0) X hw [2, 3, 4, 5, 6] [0, 1] (wr := [((b 9), .inl (dA 2, 24, .inl fW)), ((b 8), .inl (dA 3, 400, .inl u_17))]) (va_runV (As := [.int (zI (((fr : Nat) : Int))), .int (zI (((sz / 2 : Nat) : Int))), .int (zI (((lo : Nat) : Int))), .int (zI (((xs.getD (fr + sz / 2) 0 : Nat) : Int) - 1))]) (rest := []) X.fix (mm_later l hst D dA b m0 m7 m9 m10 (zI (((cs ++ pb (zI ((xs.getD (fr + sz / 2) 0 - (lo + sz / 2) : Nat) : Int)) (blen (hi - lo - sz + 1 - 1) - 1)).length : Nat) : Int)) (zI ((xs.length : Nat) : Int)) m15 m16 (zI ((gs.length + 1 : Nat) : Int)) (gs.length + 1) (by omega) ((fr : Nat) : Int) ((sz / 2 : Nat) : Int) ((lo : Nat) : Int) (((xs.getD (fr + sz / 2) 0 : Nat) : Int) - 1) (upd f1 gs.length (zI (((fr + (sz / 2)) + 1 : Nat) : Int))) (upd f2 gs.length (zI ((sz - 1 - sz / 2 : Nat) : Int))) (upd f3 gs.length (zI (((xs.getD (fr + sz / 2) 0) + 1 : Nat) : Int))) (upd f4 gs.length (zI (((hi : Nat) : Int) - 1))) _) (cwV 4 X.t (lw_V q800 q802 qs20 q48 q803) rfl rfl rfl (by decide +kernel) (pc_rmle (by decide) (by decide))) (pc_preV X hw [2, 3, 4, 5, 6] rfl rfl 10 2 rfl rfl rfl) rfl rfl hl.1 rfl (lv_room (Nat.le_of_ble_eq_true rfl)) dX12_putMiddles_195 ⟨Nat.le_of_ble_eq_true rfl, Nat.le_of_ble_eq_true rfl⟩) rfl rfl rfl rfl (fun _ _ => pc_c00) (fun u_21 H locs hq hw => ?_)
            have hw : pc_S D A s.heap [((b 9), .inl (dA 2, 24, .inl fW)), ((b 8), .inl (dA 3, 400, .inl u_17)), ((b 0), .inr (10, [.int (m0), .ref (b 1), .ref (b 2), .ref (b 3), .ref (b 4), .ref (b 5), .ref (b 6), .int (m7), .ref (b 7), .int (m9), .int (m10), .int (zI ((((cs ++ pb (zI ((xs.getD (fr + sz / 2) 0 - (lo + sz / 2) : Nat) : Int)) (blen (hi - lo - sz + 1 - 1) - 1)).length : Nat) : Int))), .ref (b 8), .int (zI (((xs.length : Nat) : Int))), .ref (b 9), .int (m15), .int (m16), .int (zI ((((gs.length + 1) + 1 : Nat) : Int))), .ref (b 10), .ref (b 11), .ref (b 12), .ref (b 13)])), ((b 10), .inl (dA 2, 30, .inl (upd (upd f1 gs.length (zI (((fr + (sz / 2)) + 1 : Nat) : Int))) (gs.length + 1) (zI ((fr : Nat) : Int))))), ((b 11), .inl (dA 2, 30, .inl (upd (upd f2 gs.length (zI ((sz - 1 - sz / 2 : Nat) : Int))) (gs.length + 1) (zI ((sz / 2 : Nat) : Int))))), ((b 12), .inl (dA 2, 30, .inl (upd (upd f3 gs.length (zI (((xs.getD (fr + sz / 2) 0) + 1 : Nat) : Int))) (gs.length + 1) (zI ((lo : Nat) : Int))))), ((b 13), .inl (dA 2, 30, .inl (upd (upd f4 gs.length (zI (((hi : Nat) : Int) - 1))) (gs.length + 1) (zI (((xs.getD (fr + sz / 2) 0 : Nat) : Int) - 1)))))] H locs := hw
            refine lv_goto (tgt := 18) X.x X.b dX12_putMiddles_198 (by decide) ?_
            rw [encM_step xs hsp hs32] at hc
            have e9_22 : cs ++ pb (zI ((xs.getD (fr + sz / 2) 0 - (lo + sz / 2) : Nat) : Int)) (blen (hi - lo - sz + 1 - 1) - 1) = cs ++ pm (xs.getD (fr + sz / 2) 0 - (lo + sz / 2)) (hi - lo - sz + 1) := by rw [pm, if_pos (by omega)]
            have hw : pc_S D A s.heap [((b 9), .inl (dA 2, 24, .inl fW)), ((b 8), .inl (dA 3, 400, .inl u_17)), ((b 0), .inr (10, [.int (m0), .ref (b 1), .ref (b 2), .ref (b 3), .ref (b 4), .ref (b 5), .ref (b 6), .int (m7), .ref (b 7), .int (m9), .int (m10), .int (zI ((((cs ++ pm (xs.getD (fr + sz / 2) 0 - (lo + sz / 2)) (hi - lo - sz + 1)).length : Nat) : Int))), .ref (b 8), .int (zI (((xs.length : Nat) : Int))), .ref (b 9), .int (m15), .int (m16), .int (zI ((((gs.length + 1) + 1 : Nat) : Int))), .ref (b 10), .ref (b 11), .ref (b 12), .ref (b 13)])), ((b 10), .inl (dA 2, 30, .inl (upd (upd f1 gs.length (zI (((fr + (sz / 2)) + 1 : Nat) : Int))) (gs.length + 1) (zI ((fr : Nat) : Int))))), ((b 11), .inl (dA 2, 30, .inl (upd (upd f2 gs.length (zI ((sz - 1 - sz / 2 : Nat) : Int))) (gs.length + 1) (zI ((sz / 2 : Nat) : Int))))), ((b 12), .inl (dA 2, 30, .inl (upd (upd f3 gs.length (zI (((xs.getD (fr + sz / 2) 0) + 1 : Nat) : Int))) (gs.length + 1) (zI ((lo : Nat) : Int))))), ((b 13), .inl (dA 2, 30, .inl (upd (upd f4 gs.length (zI (((hi : Nat) : Int) - 1))) (gs.length + 1) (zI (((xs.getD (fr + sz / 2) 0 : Nat) : Int) - 1)))))] H locs := by rw [← e9_22]; exact hw
            have hu_17 := fe9 hu_17 e9_22
            obtain ⟨hh3, hg4⟩ := hh2.push2 (q1 := ((fr + sz / 2 + 1, sz - 1 - sz / 2, xs.getD (fr + sz / 2) 0 + 1, hi) : MF)) (q2 := ((fr, sz / 2, lo, xs.getD (fr + sz / 2) 0) : MF)) hsp hsz hg5 rfl rfl
            have hs3 : StkIs (gs ++ [((fr + sz / 2 + 1, sz - 1 - sz / 2, xs.getD (fr + sz / 2) 0 + 1, hi) : MF)] ++ [((fr, sz / 2, lo, xs.getD (fr + sz / 2) 0) : MF)]) (upd (upd f1 gs.length (zI (((fr + (sz / 2)) + 1 : Nat) : Int))) (gs.length + 1) (zI ((fr : Nat) : Int))) (upd (upd f2 gs.length (zI ((sz - 1 - sz / 2 : Nat) : Int))) (gs.length + 1) (zI ((sz / 2 : Nat) : Int))) (upd (upd f3 gs.length (zI (((xs.getD (fr + sz / 2) 0) + 1 : Nat) : Int))) (gs.length + 1) (zI ((lo : Nat) : Int))) (upd (upd f4 gs.length (zI (((hi : Nat) : Int) - 1))) (gs.length + 1) (zI (((xs.getD (fr + sz / 2) 0 : Nat) : Int) - 1))) := (hs2.push rfl rfl rfl rfl rfl).push (by simp) rfl rfl rfl rfl
            have hw : pc_S D A s.heap [((b 9), .inl (dA 2, 24, .inl fW)), ((b 8), .inl (dA 3, 400, .inl u_17)), ((b 0), .inr (10, [.int (m0), .ref (b 1), .ref (b 2), .ref (b 3), .ref (b 4), .ref (b 5), .ref (b 6), .int (m7), .ref (b 7), .int (m9), .int (m10), .int (zI ((((cs ++ pm (xs.getD (fr + sz / 2) 0 - (lo + sz / 2)) (hi - lo - sz + 1)).length : Nat) : Int))), .ref (b 8), .int (zI (((xs.length : Nat) : Int))), .ref (b 9), .int (m15), .int (m16), .int (zI ((((gs ++ [((fr + sz / 2 + 1, sz - 1 - sz / 2, xs.getD (fr + sz / 2) 0 + 1, hi) : MF)] ++ [((fr, sz / 2, lo, xs.getD (fr + sz / 2) 0) : MF)]).length : Nat) : Int))), .ref (b 10), .ref (b 11), .ref (b 12), .ref (b 13)])), ((b 10), .inl (dA 2, 30, .inl (upd (upd f1 gs.length (zI (((fr + (sz / 2)) + 1 : Nat) : Int))) (gs.length + 1) (zI ((fr : Nat) : Int))))), ((b 11), .inl (dA 2, 30, .inl (upd (upd f2 gs.length (zI ((sz - 1 - sz / 2 : Nat) : Int))) (gs.length + 1) (zI ((sz / 2 : Nat) : Int))))), ((b 12), .inl (dA 2, 30, .inl (upd (upd f3 gs.length (zI (((xs.getD (fr + sz / 2) 0) + 1 : Nat) : Int))) (gs.length + 1) (zI ((lo : Nat) : Int))))), ((b 13), .inl (dA 2, 30, .inl (upd (upd f4 gs.length (zI (((hi : Nat) : Int) - 1))) (gs.length + 1) (zI (((xs.getD (fr + sz / 2) 0 : Nat) : Int) - 1)))))] H locs := by rw [show ((((gs ++ [((fr + sz / 2 + 1, sz - 1 - sz / 2, xs.getD (fr + sz / 2) 0 + 1, hi) : MF)] ++ [((fr, sz / 2, lo, xs.getD (fr + sz / 2) 0) : MF)]).length : Nat) : Int) : Int) = (((gs.length + 1) + 1 : Nat) : Int) from by simp; omega]; exact hw
            exact ih18  (gs ++ [((fr + sz / 2 + 1, sz - 1 - sz / 2, xs.getD (fr + sz / 2) 0 + 1, hi) : MF)] ++ [((fr, sz / 2, lo, xs.getD (fr + sz / 2) 0) : MF)]) (cs ++ pm (xs.getD (fr + sz / 2) 0 - (lo + sz / 2)) (hi - lo - sz + 1)) u_17 (upd (upd f1 gs.length (zI (((fr + (sz / 2)) + 1 : Nat) : Int))) (gs.length + 1) (zI ((fr : Nat) : Int))) (upd (upd f2 gs.length (zI ((sz - 1 - sz / 2 : Nat) : Int))) (gs.length + 1) (zI ((sz / 2 : Nat) : Int))) (upd (upd f3 gs.length (zI (((xs.getD (fr + sz / 2) 0) + 1 : Nat) : Int))) (gs.length + 1) (zI ((lo : Nat) : Int))) (upd (upd f4 gs.length (zI (((hi : Nat) : Int) - 1))) (gs.length + 1) (zI (((xs.getD (fr + sz / 2) 0 : Nat) : Int) - 1))) hs3 hh3 (stk_ok2 hv hok2 hM hhi hsp) (by rw [← hc, remM_snoc, remM_snoc]; simp only [List.append_assoc]) hu_17 (by rw [StkM_push, StkM_push]; dsimp only; omega) H locs (hw.sub [2, 0, 1, 3, 4, 5, 6] rfl rfl) ls (lv_sub hl [10] rfl)
  have hs0 : StkIs ([] ++ [((0, xs.length, 0, 4096) : MF)]) (upd f1 0 (zI 0)) (upd f2 0 (zI ((xs.length : Nat) : Int))) (upd f3 0 (zI 0)) (upd f4 0 (zI 4095)) := StkIs.nil.push rfl rfl rfl rfl rfl
  have hw : pc_S D A s.heap [((b 9), .inl (dA 2, 24, .inl fW)), ((b 8), .inl (dA 3, 400, .inl f)), ((b 0), .inr (10, [.int (m0), .ref (b 1), .ref (b 2), .ref (b 3), .ref (b 4), .ref (b 5), .ref (b 6), .int (m7), .ref (b 7), .int (m9), .int (m10), .int (zI 0), .ref (b 8), .int (zI (((xs.length : Nat) : Int))), .ref (b 9), .int (m15), .int (m16), .int (zI (((([((0, xs.length, 0, 4096) : MF)] : List MF).length : Nat) : Int))), .ref (b 10), .ref (b 11), .ref (b 12), .ref (b 13)])), ((b 10), .inl (dA 2, 30, .inl (upd f1 0 (zI 0)))), ((b 11), .inl (dA 2, 30, .inl (upd f2 0 (zI ((xs.length : Nat) : Int))))), ((b 12), .inl (dA 2, 30, .inl (upd f3 0 (zI 0)))), ((b 13), .inl (dA 2, 30, .inl (upd f4 0 (zI 4095))))] H locs := by rw [show (((([((0, xs.length, 0, 4096) : MF)] : List MF).length : Nat) : Int) : Int) = ((0 + 1 : Nat) : Int) from rfl]; exact hw
  have hw : pc_S D A s.heap [((b 9), .inl (dA 2, 24, .inl fW)), ((b 8), .inl (dA 3, 400, .inl f)), ((b 0), .inr (10, [.int (m0), .ref (b 1), .ref (b 2), .ref (b 3), .ref (b 4), .ref (b 5), .ref (b 6), .int (m7), .ref (b 7), .int (m9), .int (m10), .int (zI (((([] : List Bool).length : Nat) : Int))), .ref (b 8), .int (zI (((xs.length : Nat) : Int))), .ref (b 9), .int (m15), .int (m16), .int (zI (((([((0, xs.length, 0, 4096) : MF)] : List MF).length : Nat) : Int))), .ref (b 10), .ref (b 11), .ref (b 12), .ref (b 13)])), ((b 10), .inl (dA 2, 30, .inl (upd f1 0 (zI 0)))), ((b 11), .inl (dA 2, 30, .inl (upd f2 0 (zI ((xs.length : Nat) : Int))))), ((b 12), .inl (dA 2, 30, .inl (upd f3 0 (zI 0)))), ((b 13), .inl (dA 2, 30, .inl (upd f4 0 (zI 4095))))] H locs := by rw [show (((([] : List Bool).length : Nat) : Int) : Int) = 0 from rfl]; exact hw
  exact B18 _ ([((0, xs.length, 0, 4096) : MF)]) ([]) f (upd f1 0 (zI 0)) (upd f2 0 (zI ((xs.length : Nat) : Int))) (upd f3 0 (zI 0)) (upd f4 0 (zI 4095)) hs0 ⟨by simp, fun i hi => by simp at hi; subst hi; show xs.length < 32; omega⟩ (fun q hq => by rw [List.mem_singleton] at hq; subst hq; exact ⟨mid_top hv, Nat.le_refl _⟩) (by simp [remM]) (RowIs.nil f) (Nat.lt_succ_self _) H locs (hw.sub [2, 0, 1, 3, 4, 5, 6] rfl rfl) ls (lv_sub hl [0] rfl)
set_option maxHeartbeats 4000000 in
/-- make -/
theorem mm_make (l : Launch) (hst : l.stackTraces = false) (D : va_G) (dA : Nat → ClassId) (b : Nat → Nat) (m0 m7 m9 m10 m11 m13 m15 m16 m17 : Int32) (xs : List Nat) (hv : Valid xs) (fW f : Nat → Int32) (hW : ArrIs xs fW) (f1 f2 f3 f4 : Nat → Int32) (c k : Nat) (hc6 : c < 6) (hk : k ≤ 7) : pc_V l yX12_make cX12_make 6 (pc_rm 4 0 0) D dA [.ref (b 0), .int (zI (((c : Nat) : Int))), .int (zI (((k : Nat) : Int)))] [((b 0), .inr (10, [.int (m0), .ref (b 1), .ref (b 2), .ref (b 3), .ref (b 4), .ref (b 5), .ref (b 6), .int (m7), .ref (b 7), .int (m9), .int (m10), .int (m11), .ref (b 8), .int (zI (((xs.length : Nat) : Int))), .ref (b 9), .int (m15), .int (m16), .int (m17), .ref (b 10), .ref (b 11), .ref (b 12), .ref (b 13)])), ((b 9), .inl (dA 2, 24, .inl fW)), ((b 8), .inl (dA 3, 400, .inl f)), ((b 10), .inl (dA 2, 30, .inl f1)), ((b 11), .inl (dA 2, 30, .inl f2)), ((b 12), .inl (dA 2, 30, .inl f3)), ((b 13), .inl (dA 2, 30, .inl f4))] (fun u : (Nat → Int32) × Int32 × (Nat → Int32) × (Nat → Int32) × (Nat → Int32) × (Nat → Int32) => RowIs (enc c k xs) u.1) (fun u => [((b 0), .inr (10, [.int (m0), .ref (b 1), .ref (b 2), .ref (b 3), .ref (b 4), .ref (b 5), .ref (b 6), .int (m7), .ref (b 7), .int (m9), .int (m10), .int (zI ((((enc c k xs).length : Nat) : Int))), .ref (b 8), .int (zI (((xs.length : Nat) : Int))), .ref (b 9), .int (m15), .int (m16), .int (u.2.1), .ref (b 10), .ref (b 11), .ref (b 12), .ref (b 13)])), ((b 9), .inl (dA 2, 24, .inl fW)), ((b 8), .inl (dA 3, 400, .inl u.1)), ((b 10), .inl (dA 2, 30, .inl u.2.2.1)), ((b 11), .inl (dA 2, 30, .inl u.2.2.2.1)), ((b 12), .inl (dA 2, 30, .inl u.2.2.2.2.1)), ((b 13), .inl (dA 2, 30, .inl u.2.2.2.2.2))]) := by
  refine st_v hst (by decide) RX12 rfl (Nat.le_of_ble_eq_true rfl) ?_
  intro pg ev s mt args below meth cd R A Q hR X hin exit H locs hw ls hl
  subst hR
  have hl : lv_has ls 6 [(0, .ref (b 0)), (1, .int (zI (((c : Nat) : Int)))), (2, .int (zI (((k : Nat) : Int))))] := hl
  have hv1 := hv.1
  rcases (show c = 3 ∨ c = 4 ∨ c = 5 ∨ c = 0 ∨ c = 1 ∨ c = 2 by omega) with rfl | rfl | rfl | rfl | rfl | rfl
  · skip
    have hv1 := hv.1
    refine lv_aload_n X.x X.b dX12_make_0 rfl (lv_at hl 0 rfl) ?_
    refine z_iconst X dX12_make_1 ?_
    refine z_put X hw in_X12 tyX12 tyX12_ok nmX12 0 rfl rfl 11 (by decide) q675 rfl rfl rfl rfl (Nat.le_of_ble_eq_true rfl) dX12_make_2 (fun H locs hw => ?_)
    have hw : pc_S D A s.heap [((b 0), .inr (10, [.int (m0), .ref (b 1), .ref (b 2), .ref (b 3), .ref (b 4), .ref (b 5), .ref (b 6), .int (m7), .ref (b 7), .int (m9), .int (m10), .int (zI 0), .ref (b 8), .int (zI (((xs.length : Nat) : Int))), .ref (b 9), .int (m15), .int (m16), .int (m17), .ref (b 10), .ref (b 11), .ref (b 12), .ref (b 13)])), ((b 9), .inl (dA 2, 24, .inl fW)), ((b 8), .inl (dA 3, 400, .inl f)), ((b 10), .inl (dA 2, 30, .inl f1)), ((b 11), .inl (dA 2, 30, .inl f2)), ((b 12), .inl (dA 2, 30, .inl f3)), ((b 13), .inl (dA 2, 30, .inl f4))] H locs := hw
    refine lv_iload_n X.x X.b dX12_make_5 rfl (lv_at hl 1 rfl) ?_
    refine z_iconst X dX12_make_6 ?_
    refine z_icmp_ne (tgt := 17) X dX12_make_7 (by decide) (by omega) (by omega) (fun c_1 => ?_) (fun c_1 => ?_)
    · skip
      omega
    · skip
      refine lv_aload_n X.x X.b dX12_make_10 rfl (lv_at hl 0 rfl) ?_
      refine cv_v (c1 := 0) (s1 := 0) X hw [0, 1, 2] [3, 4, 5, 6] (wr := [((b 10), .inl (dA 2, 30, .inl f1)), ((b 11), .inl (dA 2, 30, .inl f2)), ((b 12), .inl (dA 2, 30, .inl f3)), ((b 13), .inl (dA 2, 30, .inl f4))]) (va_runV (As := []) (rest := []) X.fix (mm_putFrames l hst D dA b m0 m7 m9 m10 (zI 0) (zI ((xs.length : Nat) : Int)) m15 m16 m17 xs hv fW f hW _) (cwV 0 X.t (lw_V q770 q772 qs14 q48 q773) rfl rfl rfl (by decide +kernel) (pc_rmle (by decide) (by decide))) (pc_preV X hw [0, 1, 2] rfl rfl 10 0 rfl rfl rfl) rfl rfl hl.1 rfl (lv_room (Nat.le_of_ble_eq_true rfl)) dX12_make_11 ⟨Nat.le_of_ble_eq_true rfl, Nat.le_of_ble_eq_true rfl⟩) rfl rfl rfl rfl (fun _ _ => pc_c00) (fun u_3 H locs hq hw => ?_)
      have hw : pc_S D A s.heap [((b 10), .inl (dA 2, 30, .inl f1)), ((b 11), .inl (dA 2, 30, .inl f2)), ((b 12), .inl (dA 2, 30, .inl f3)), ((b 13), .inl (dA 2, 30, .inl f4)), ((b 0), .inr (10, [.int (m0), .ref (b 1), .ref (b 2), .ref (b 3), .ref (b 4), .ref (b 5), .ref (b 6), .int (m7), .ref (b 7), .int (m9), .int (m10), .int (zI ((((encF xs (nbF xs.length)).length : Nat) : Int))), .ref (b 8), .int (zI (((xs.length : Nat) : Int))), .ref (b 9), .int (m15), .int (m16), .int (m17), .ref (b 10), .ref (b 11), .ref (b 12), .ref (b 13)])), ((b 9), .inl (dA 2, 24, .inl fW)), ((b 8), .inl (dA 3, 400, .inl u_3))] H locs := hw
      have hu_3 := hq
      refine lv_goto (tgt := 38) X.x X.b dX12_make_14 (by decide) ?_
      refine z_iconst X dX12_make_38 ?_
      refine lv_istore_n (lv' := [(3, .int (zI 0)), (0, .ref (b 0)), (1, .int (zI 3)), (2, .int (zI (((k : Nat) : Int))))]) X.x X.b dX12_make_39 rfl hl (by decide) rfl (fun ls hl => ?_)
      refine lv_iload_n X.x X.b dX12_make_40 rfl (lv_at hl 0 rfl) ?_
      refine lv_aload_n X.x X.b dX12_make_41 rfl (lv_at hl 1 rfl) ?_
      refine z_get X hw in_X12 4 rfl rfl 13 (by decide) q677 rfl rfl dX12_make_42 ?_
      refine z_icmp_ge (tgt := 176) X dX12_make_45 (by decide) (by omega) (by omega) (fun c_4 => ?_) (fun c_4 => ?_)
      · skip
        have hw : pc_S D A s.heap [((b 0), .inr (10, [.int (m0), .ref (b 1), .ref (b 2), .ref (b 3), .ref (b 4), .ref (b 5), .ref (b 6), .int (m7), .ref (b 7), .int (m9), .int (m10), .int (zI ((((encF xs (nbF xs.length)).length : Nat) : Int))), .ref (b 8), .int (zI (((xs.length : Nat) : Int))), .ref (b 9), .int (m15), .int (m16), .int (m17), .ref (b 10), .ref (b 11), .ref (b 12), .ref (b 13)])), ((b 9), .inl (dA 2, 24, .inl fW)), ((b 8), .inl (dA 3, 400, .inl u_3)), ((b 10), .inl (dA 2, 30, .inl f1)), ((b 11), .inl (dA 2, 30, .inl f2)), ((b 12), .inl (dA 2, 30, .inl f3)), ((b 13), .inl (dA 2, 30, .inl f4))] H locs := hw.sub [4, 5, 6, 0, 1, 2, 3] rfl rfl
        exact exit (u_3, m17, f1, f2, f3, f4) dX12_make_176 hu_3 hw (Nat.zero_le _) (Nat.zero_le _)
      · skip
        refine lv_iload_n X.x X.b dX12_make_48 rfl (lv_at hl 2 rfl) ?_
        refine z_iconst X dX12_make_49 ?_
        refine z_icmp_ge (tgt := 176) X dX12_make_50 (by decide) (by omega) (by omega) (fun c_5 => ?_) (fun c_5 => ?_)
        · skip
          have hw : pc_S D A s.heap [((b 0), .inr (10, [.int (m0), .ref (b 1), .ref (b 2), .ref (b 3), .ref (b 4), .ref (b 5), .ref (b 6), .int (m7), .ref (b 7), .int (m9), .int (m10), .int (zI ((((encF xs (nbF xs.length)).length : Nat) : Int))), .ref (b 8), .int (zI (((xs.length : Nat) : Int))), .ref (b 9), .int (m15), .int (m16), .int (m17), .ref (b 10), .ref (b 11), .ref (b 12), .ref (b 13)])), ((b 9), .inl (dA 2, 24, .inl fW)), ((b 8), .inl (dA 3, 400, .inl u_3)), ((b 10), .inl (dA 2, 30, .inl f1)), ((b 11), .inl (dA 2, 30, .inl f2)), ((b 12), .inl (dA 2, 30, .inl f3)), ((b 13), .inl (dA 2, 30, .inl f4))] H locs := hw.sub [4, 5, 6, 0, 1, 2, 3] rfl rfl
          exact exit (u_3, m17, f1, f2, f3, f4) dX12_make_176 hu_3 hw (Nat.zero_le _) (Nat.zero_le _)
        · skip
          omega
  · skip
    have hv1 := hv.1
    refine lv_aload_n X.x X.b dX12_make_0 rfl (lv_at hl 0 rfl) ?_
    refine z_iconst X dX12_make_1 ?_
    refine z_put X hw in_X12 tyX12 tyX12_ok nmX12 0 rfl rfl 11 (by decide) q675 rfl rfl rfl rfl (Nat.le_of_ble_eq_true rfl) dX12_make_2 (fun H locs hw => ?_)
    have hw : pc_S D A s.heap [((b 0), .inr (10, [.int (m0), .ref (b 1), .ref (b 2), .ref (b 3), .ref (b 4), .ref (b 5), .ref (b 6), .int (m7), .ref (b 7), .int (m9), .int (m10), .int (zI 0), .ref (b 8), .int (zI (((xs.length : Nat) : Int))), .ref (b 9), .int (m15), .int (m16), .int (m17), .ref (b 10), .ref (b 11), .ref (b 12), .ref (b 13)])), ((b 9), .inl (dA 2, 24, .inl fW)), ((b 8), .inl (dA 3, 400, .inl f)), ((b 10), .inl (dA 2, 30, .inl f1)), ((b 11), .inl (dA 2, 30, .inl f2)), ((b 12), .inl (dA 2, 30, .inl f3)), ((b 13), .inl (dA 2, 30, .inl f4))] H locs := hw
    refine lv_iload_n X.x X.b dX12_make_5 rfl (lv_at hl 1 rfl) ?_
    refine z_iconst X dX12_make_6 ?_
    refine z_icmp_ne (tgt := 17) X dX12_make_7 (by decide) (by omega) (by omega) (fun c_6 => ?_) (fun c_6 => ?_)
    · skip
      refine lv_iload_n X.x X.b dX12_make_17 rfl (lv_at hl 1 rfl) ?_
      refine z_iconst X dX12_make_18 ?_
      refine z_icmp_ne (tgt := 29) X dX12_make_19 (by decide) (by omega) (by omega) (fun c_7 => ?_) (fun c_7 => ?_)
      · skip
        omega
      · skip
        refine lv_aload_n X.x X.b dX12_make_22 rfl (lv_at hl 0 rfl) ?_
        refine cv_v (c1 := 0) (s1 := 0) X hw [0, 1, 2] [3, 4, 5, 6] (wr := [((b 10), .inl (dA 2, 30, .inl f1)), ((b 11), .inl (dA 2, 30, .inl f2)), ((b 12), .inl (dA 2, 30, .inl f3)), ((b 13), .inl (dA 2, 30, .inl f4))]) (va_runV (As := []) (rest := []) X.fix (mm_putSplit l hst D dA b m0 m7 m9 m10 (zI 0) (zI ((xs.length : Nat) : Int)) m15 m16 m17 xs hv fW f hW _) (cwV 0 X.t (lw_V q785 q787 qs17 q48 q788) rfl rfl rfl (by decide +kernel) (pc_rmle (by decide) (by decide))) (pc_preV X hw [0, 1, 2] rfl rfl 10 0 rfl rfl rfl) rfl rfl hl.1 rfl (lv_room (Nat.le_of_ble_eq_true rfl)) dX12_make_23 ⟨Nat.le_of_ble_eq_true rfl, Nat.le_of_ble_eq_true rfl⟩) rfl rfl rfl rfl (fun _ _ => pc_c00) (fun u_9 H locs hq hw => ?_)
        have hw : pc_S D A s.heap [((b 10), .inl (dA 2, 30, .inl f1)), ((b 11), .inl (dA 2, 30, .inl f2)), ((b 12), .inl (dA 2, 30, .inl f3)), ((b 13), .inl (dA 2, 30, .inl f4)), ((b 0), .inr (10, [.int (m0), .ref (b 1), .ref (b 2), .ref (b 3), .ref (b 4), .ref (b 5), .ref (b 6), .int (m7), .ref (b 7), .int (m9), .int (m10), .int (zI ((((encS xs).length : Nat) : Int))), .ref (b 8), .int (zI (((xs.length : Nat) : Int))), .ref (b 9), .int (m15), .int (m16), .int (m17), .ref (b 10), .ref (b 11), .ref (b 12), .ref (b 13)])), ((b 9), .inl (dA 2, 24, .inl fW)), ((b 8), .inl (dA 3, 400, .inl u_9))] H locs := hw
        have hu_9 := hq
        refine lv_goto (tgt := 38) X.x X.b dX12_make_26 (by decide) ?_
        refine z_iconst X dX12_make_38 ?_
        refine lv_istore_n (lv' := [(3, .int (zI 0)), (0, .ref (b 0)), (1, .int (zI 4)), (2, .int (zI (((k : Nat) : Int))))]) X.x X.b dX12_make_39 rfl hl (by decide) rfl (fun ls hl => ?_)
        refine lv_iload_n X.x X.b dX12_make_40 rfl (lv_at hl 0 rfl) ?_
        refine lv_aload_n X.x X.b dX12_make_41 rfl (lv_at hl 1 rfl) ?_
        refine z_get X hw in_X12 4 rfl rfl 13 (by decide) q677 rfl rfl dX12_make_42 ?_
        refine z_icmp_ge (tgt := 176) X dX12_make_45 (by decide) (by omega) (by omega) (fun c_10 => ?_) (fun c_10 => ?_)
        · skip
          have hw : pc_S D A s.heap [((b 0), .inr (10, [.int (m0), .ref (b 1), .ref (b 2), .ref (b 3), .ref (b 4), .ref (b 5), .ref (b 6), .int (m7), .ref (b 7), .int (m9), .int (m10), .int (zI ((((encS xs).length : Nat) : Int))), .ref (b 8), .int (zI (((xs.length : Nat) : Int))), .ref (b 9), .int (m15), .int (m16), .int (m17), .ref (b 10), .ref (b 11), .ref (b 12), .ref (b 13)])), ((b 9), .inl (dA 2, 24, .inl fW)), ((b 8), .inl (dA 3, 400, .inl u_9)), ((b 10), .inl (dA 2, 30, .inl f1)), ((b 11), .inl (dA 2, 30, .inl f2)), ((b 12), .inl (dA 2, 30, .inl f3)), ((b 13), .inl (dA 2, 30, .inl f4))] H locs := hw.sub [4, 5, 6, 0, 1, 2, 3] rfl rfl
          exact exit (u_9, m17, f1, f2, f3, f4) dX12_make_176 hu_9 hw (Nat.zero_le _) (Nat.zero_le _)
        · skip
          refine lv_iload_n X.x X.b dX12_make_48 rfl (lv_at hl 2 rfl) ?_
          refine z_iconst X dX12_make_49 ?_
          refine z_icmp_ge (tgt := 176) X dX12_make_50 (by decide) (by omega) (by omega) (fun c_11 => ?_) (fun c_11 => ?_)
          · skip
            have hw : pc_S D A s.heap [((b 0), .inr (10, [.int (m0), .ref (b 1), .ref (b 2), .ref (b 3), .ref (b 4), .ref (b 5), .ref (b 6), .int (m7), .ref (b 7), .int (m9), .int (m10), .int (zI ((((encS xs).length : Nat) : Int))), .ref (b 8), .int (zI (((xs.length : Nat) : Int))), .ref (b 9), .int (m15), .int (m16), .int (m17), .ref (b 10), .ref (b 11), .ref (b 12), .ref (b 13)])), ((b 9), .inl (dA 2, 24, .inl fW)), ((b 8), .inl (dA 3, 400, .inl u_9)), ((b 10), .inl (dA 2, 30, .inl f1)), ((b 11), .inl (dA 2, 30, .inl f2)), ((b 12), .inl (dA 2, 30, .inl f3)), ((b 13), .inl (dA 2, 30, .inl f4))] H locs := hw.sub [4, 5, 6, 0, 1, 2, 3] rfl rfl
            exact exit (u_9, m17, f1, f2, f3, f4) dX12_make_176 hu_9 hw (Nat.zero_le _) (Nat.zero_le _)
          · skip
            omega
    · skip
      omega
  · skip
    have hv1 := hv.1
    refine lv_aload_n X.x X.b dX12_make_0 rfl (lv_at hl 0 rfl) ?_
    refine z_iconst X dX12_make_1 ?_
    refine z_put X hw in_X12 tyX12 tyX12_ok nmX12 0 rfl rfl 11 (by decide) q675 rfl rfl rfl rfl (Nat.le_of_ble_eq_true rfl) dX12_make_2 (fun H locs hw => ?_)
    have hw : pc_S D A s.heap [((b 0), .inr (10, [.int (m0), .ref (b 1), .ref (b 2), .ref (b 3), .ref (b 4), .ref (b 5), .ref (b 6), .int (m7), .ref (b 7), .int (m9), .int (m10), .int (zI 0), .ref (b 8), .int (zI (((xs.length : Nat) : Int))), .ref (b 9), .int (m15), .int (m16), .int (m17), .ref (b 10), .ref (b 11), .ref (b 12), .ref (b 13)])), ((b 9), .inl (dA 2, 24, .inl fW)), ((b 8), .inl (dA 3, 400, .inl f)), ((b 10), .inl (dA 2, 30, .inl f1)), ((b 11), .inl (dA 2, 30, .inl f2)), ((b 12), .inl (dA 2, 30, .inl f3)), ((b 13), .inl (dA 2, 30, .inl f4))] H locs := hw
    refine lv_iload_n X.x X.b dX12_make_5 rfl (lv_at hl 1 rfl) ?_
    refine z_iconst X dX12_make_6 ?_
    refine z_icmp_ne (tgt := 17) X dX12_make_7 (by decide) (by omega) (by omega) (fun c_12 => ?_) (fun c_12 => ?_)
    · skip
      refine lv_iload_n X.x X.b dX12_make_17 rfl (lv_at hl 1 rfl) ?_
      refine z_iconst X dX12_make_18 ?_
      refine z_icmp_ne (tgt := 29) X dX12_make_19 (by decide) (by omega) (by omega) (fun c_13 => ?_) (fun c_13 => ?_)
      · skip
        refine lv_iload_n X.x X.b dX12_make_29 rfl (lv_at hl 1 rfl) ?_
        refine z_iconst X dX12_make_30 ?_
        refine z_icmp_ne (tgt := 38) X dX12_make_31 (by decide) (by omega) (by omega) (fun c_14 => ?_) (fun c_14 => ?_)
        · skip
          omega
        · skip
          refine lv_aload_n X.x X.b dX12_make_34 rfl (lv_at hl 0 rfl) ?_
          refine cv_v (c1 := 0) (s1 := 0) X hw [0, 1, 2, 3, 4, 5, 6] [] (wr := []) (va_runV (As := []) (rest := []) X.fix (mm_putMiddles l hst D dA b m0 m7 m9 m10 (zI 0) (zI ((xs.length : Nat) : Int)) m15 m16 m17 xs hv fW f hW f1 f2 f3 f4 _) (cwV 0 X.t (lw_V q796 q798 qs19 q48 q799) rfl rfl rfl (by decide +kernel) (pc_rmle (by decide) (by decide))) (pc_preV X hw [0, 1, 2, 3, 4, 5, 6] rfl rfl 10 0 rfl rfl rfl) rfl rfl hl.1 rfl (lv_room (Nat.le_of_ble_eq_true rfl)) dX12_make_35 ⟨Nat.le_of_ble_eq_true rfl, Nat.le_of_ble_eq_true rfl⟩) rfl rfl rfl rfl (fun _ _ => pc_c00) (fun u_16 H locs hq hw => ?_)
          obtain ⟨u_16_0, u_16_1, u_16_2, u_16_3, u_16_4⟩ := u_16
          have hw : pc_S D A s.heap [((b 0), .inr (10, [.int (m0), .ref (b 1), .ref (b 2), .ref (b 3), .ref (b 4), .ref (b 5), .ref (b 6), .int (m7), .ref (b 7), .int (m9), .int (m10), .int (zI ((((encM xs 5 xs.length 0 0 4096).length : Nat) : Int))), .ref (b 8), .int (zI (((xs.length : Nat) : Int))), .ref (b 9), .int (m15), .int (m16), .int (zI 0), .ref (b 10), .ref (b 11), .ref (b 12), .ref (b 13)])), ((b 9), .inl (dA 2, 24, .inl fW)), ((b 8), .inl (dA 3, 400, .inl u_16_0)), ((b 10), .inl (dA 2, 30, .inl u_16_1)), ((b 11), .inl (dA 2, 30, .inl u_16_2)), ((b 12), .inl (dA 2, 30, .inl u_16_3)), ((b 13), .inl (dA 2, 30, .inl u_16_4))] H locs := hw
          have hu_16 := hq
          refine z_iconst X dX12_make_38 ?_
          refine lv_istore_n (lv' := [(3, .int (zI 0)), (0, .ref (b 0)), (1, .int (zI 5)), (2, .int (zI (((k : Nat) : Int))))]) X.x X.b dX12_make_39 rfl hl (by decide) rfl (fun ls hl => ?_)
          refine lv_iload_n X.x X.b dX12_make_40 rfl (lv_at hl 0 rfl) ?_
          refine lv_aload_n X.x X.b dX12_make_41 rfl (lv_at hl 1 rfl) ?_
          refine z_get X hw in_X12 0 rfl rfl 13 (by decide) q677 rfl rfl dX12_make_42 ?_
          refine z_icmp_ge (tgt := 176) X dX12_make_45 (by decide) (by omega) (by omega) (fun c_17 => ?_) (fun c_17 => ?_)
          · skip
            exact exit (u_16_0, zI 0, u_16_1, u_16_2, u_16_3, u_16_4) dX12_make_176 hu_16 hw (Nat.zero_le _) (Nat.zero_le _)
          · skip
            refine lv_iload_n X.x X.b dX12_make_48 rfl (lv_at hl 2 rfl) ?_
            refine z_iconst X dX12_make_49 ?_
            refine z_icmp_ge (tgt := 176) X dX12_make_50 (by decide) (by omega) (by omega) (fun c_18 => ?_) (fun c_18 => ?_)
            · skip
              exact exit (u_16_0, zI 0, u_16_1, u_16_2, u_16_3, u_16_4) dX12_make_176 hu_16 hw (Nat.zero_le _) (Nat.zero_le _)
            · skip
              omega
      · skip
        omega
    · skip
      omega
  · skip
    have hv1 := hv.1
    refine lv_aload_n X.x X.b dX12_make_0 rfl (lv_at hl 0 rfl) ?_
    refine z_iconst X dX12_make_1 ?_
    refine z_put X hw in_X12 tyX12 tyX12_ok nmX12 0 rfl rfl 11 (by decide) q675 rfl rfl rfl rfl (Nat.le_of_ble_eq_true rfl) dX12_make_2 (fun H locs hw => ?_)
    have hw : pc_S D A s.heap [((b 0), .inr (10, [.int (m0), .ref (b 1), .ref (b 2), .ref (b 3), .ref (b 4), .ref (b 5), .ref (b 6), .int (m7), .ref (b 7), .int (m9), .int (m10), .int (zI 0), .ref (b 8), .int (zI (((xs.length : Nat) : Int))), .ref (b 9), .int (m15), .int (m16), .int (m17), .ref (b 10), .ref (b 11), .ref (b 12), .ref (b 13)])), ((b 9), .inl (dA 2, 24, .inl fW)), ((b 8), .inl (dA 3, 400, .inl f)), ((b 10), .inl (dA 2, 30, .inl f1)), ((b 11), .inl (dA 2, 30, .inl f2)), ((b 12), .inl (dA 2, 30, .inl f3)), ((b 13), .inl (dA 2, 30, .inl f4))] H locs := hw
    refine lv_iload_n X.x X.b dX12_make_5 rfl (lv_at hl 1 rfl) ?_
    refine z_iconst X dX12_make_6 ?_
    refine z_icmp_ne (tgt := 17) X dX12_make_7 (by decide) (by omega) (by omega) (fun c_19 => ?_) (fun c_19 => ?_)
    · skip
      refine lv_iload_n X.x X.b dX12_make_17 rfl (lv_at hl 1 rfl) ?_
      refine z_iconst X dX12_make_18 ?_
      refine z_icmp_ne (tgt := 29) X dX12_make_19 (by decide) (by omega) (by omega) (fun c_20 => ?_) (fun c_20 => ?_)
      · skip
        refine lv_iload_n X.x X.b dX12_make_29 rfl (lv_at hl 1 rfl) ?_
        refine z_iconst X dX12_make_30 ?_
        refine z_icmp_ne (tgt := 38) X dX12_make_31 (by decide) (by omega) (by omega) (fun c_21 => ?_) (fun c_21 => ?_)
        · skip
          refine z_iconst X dX12_make_38 ?_
          refine lv_istore_n (lv' := [(3, .int (zI 0)), (0, .ref (b 0)), (1, .int (zI 0)), (2, .int (zI (((k : Nat) : Int))))]) X.x X.b dX12_make_39 rfl hl (by decide) rfl (fun ls hl => ?_)
          have B40 : ∀ (NN : Nat) (i : Nat) (f : Nat → Int32) (hi : i ≤ xs.length) (hf : RowIs (encP 0 k xs i) f) (hNN : xs.length - i < NN) (H : Heap) (locs : List Loc), pc_S D A s.heap [((b 0), .inr (10, [.int (m0), .ref (b 1), .ref (b 2), .ref (b 3), .ref (b 4), .ref (b 5), .ref (b 6), .int (m7), .ref (b 7), .int (m9), .int (m10), .int (zI ((((encP 0 k xs i).length : Nat) : Int))), .ref (b 8), .int (zI (((xs.length : Nat) : Int))), .ref (b 9), .int (m15), .int (m16), .int (m17), .ref (b 10), .ref (b 11), .ref (b 12), .ref (b 13)])), ((b 9), .inl (dA 2, 24, .inl fW)), ((b 8), .inl (dA 3, 400, .inl f)), ((b 10), .inl (dA 2, 30, .inl f1)), ((b 11), .inl (dA 2, 30, .inl f2)), ((b 12), .inl (dA 2, 30, .inl f3)), ((b 13), .inl (dA 2, 30, .inl f4))] H locs → ∀ ls : Array Slot, lv_has ls 6 [(0, .ref (b 0)), (1, .int (zI 0)), (2, .int (zI (((k : Nat) : Int)))), (3, .int (zI (((i : Nat) : Int))))] → W pg l ev (pc_rm 4 0 0) s mt args below meth cd H locs 0 0 Q (F0 mt 40 ls []) := by
            intro NN
            induction NN with
            | zero => intro i f hi hf hNN; exact absurd hNN (Nat.not_lt_zero _)
            | succ NN ih40 =>
              intro i f hi hf hNN H locs hw ls hl
              have hln := encP_len (c := 0) hv hk i hi
              refine lv_iload_n X.x X.b dX12_make_40 rfl (lv_at hl 3 rfl) ?_
              refine lv_aload_n X.x X.b dX12_make_41 rfl (lv_at hl 0 rfl) ?_
              refine z_get X hw in_X12 0 rfl rfl 13 (by decide) q677 rfl rfl dX12_make_42 ?_
              refine z_icmp_ge (tgt := 176) X dX12_make_45 (by decide) (by omega) (by omega) (fun c_22 => ?_) (fun c_22 => ?_)
              · skip
                have hi9 : i = xs.length := by omega
                rw [hi9] at hw hf
                exact exit (f, m17, f1, f2, f3, f4) dX12_make_176 hf hw (Nat.zero_le _) (Nat.zero_le _)
              · skip
                refine lv_iload_n X.x X.b dX12_make_48 rfl (lv_at hl 1 rfl) ?_
                refine z_iconst X dX12_make_49 ?_
                refine z_icmp_ge (tgt := 176) X dX12_make_50 (by decide) (by omega) (by omega) (fun c_23 => ?_) (fun c_23 => ?_)
                · skip
                  omega
                · skip
                  refine lv_aload_n X.x X.b dX12_make_53 rfl (lv_at hl 0 rfl) ?_
                  refine lv_iload_n X.x X.b dX12_make_54 rfl (lv_at hl 3 rfl) ?_
                  refine cv_i (c1 := 0) (s1 := 0) X hw [0, 1] [2, 3, 4, 5, 6] (wr := [((b 8), .inl (dA 3, 400, .inl f)), ((b 10), .inl (dA 2, 30, .inl f1)), ((b 11), .inl (dA 2, 30, .inl f2)), ((b 12), .inl (dA 2, 30, .inl f3)), ((b 13), .inl (dA 2, 30, .inl f4))]) (va_runV (As := [.int (zI (((i : Nat) : Int)))]) (rest := []) X.fix (mm_less l hst D dA b m0 m7 m9 m10 (zI (((encP 0 k xs i).length : Nat) : Int)) (zI ((xs.length : Nat) : Int)) m15 m16 m17 fW xs hv hW i (by omega) _) (cwV 1 X.t (lw_V q774 q776 qs15 q48 q777) rfl rfl rfl (by decide +kernel) (pc_rmle (by decide) (by decide))) (pc_preV X hw [0, 1] rfl rfl 10 0 rfl rfl rfl) rfl rfl hl.1 rfl (lv_room (Nat.le_of_ble_eq_true rfl)) dX12_make_55 ⟨Nat.le_of_ble_eq_true rfl, Nat.le_of_ble_eq_true rfl⟩) rfl rfl rfl rfl (fun _ _ _ => pc_c00) (fun r_24 u_25 H locs hq hw => ?_)
                  have hw : pc_S D A s.heap [((b 8), .inl (dA 3, 400, .inl f)), ((b 10), .inl (dA 2, 30, .inl f1)), ((b 11), .inl (dA 2, 30, .inl f2)), ((b 12), .inl (dA 2, 30, .inl f3)), ((b 13), .inl (dA 2, 30, .inl f4)), ((b 0), .inr (10, [.int (m0), .ref (b 1), .ref (b 2), .ref (b 3), .ref (b 4), .ref (b 5), .ref (b 6), .int (m7), .ref (b 7), .int (m9), .int (m10), .int (zI ((((encP 0 k xs i).length : Nat) : Int))), .ref (b 8), .int (zI (((xs.length : Nat) : Int))), .ref (b 9), .int (m15), .int (m16), .int (m17), .ref (b 10), .ref (b 11), .ref (b 12), .ref (b 13)])), ((b 9), .inl (dA 2, 24, .inl fW))] H locs := hw
                  subst hq
                  have hgp := gap_le hv (i := i) (by omega)
                  have hdv : gap xs i / 2 ^ k ≤ gap xs i := Nat.div_le_self _ _
                  have hbp := blen_pos (x := gap xs i + 1) (by omega)
                  have hb13 : blen (gap xs i + 1) ≤ 13 := blen_max (by omega)
                  refine lv_istore (lv' := [(4, .int (zI (((gap xs i : Nat) : Int)))), (0, .ref (b 0)), (1, .int (zI 0)), (2, .int (zI (((k : Nat) : Int)))), (3, .int (zI (((i : Nat) : Int))))]) X.x X.b dX12_make_58 hl (by decide) rfl (fun ls hl => ?_)
                  refine lv_iload_n X.x X.b dX12_make_60 rfl (lv_at hl 2 rfl) ?_
                  refine z_if_ne (tgt := 112) X dX12_make_61 (by decide) (by omega) (fun c_26 => ?_) (fun c_26 => ?_)
                  · skip
                    omega
                  · skip
                    refine lv_iload X.x X.b dX12_make_64 (lv_at hl 0 rfl) ?_
                    refine z_bipush X dX12_make_66 (by decide) ?_
                    refine z_icmp_le (tgt := 82) X dX12_make_68 (by decide) (by omega) (by omega) (fun c_27 => ?_) (fun c_27 => ?_)
                    · skip
                      refine lv_aload_n X.x X.b dX12_make_82 rfl (lv_at hl 1 rfl) ?_
                      refine z_sipush X dX12_make_83 (by decide) ?_
                      refine lv_iload X.x X.b dX12_make_86 (lv_at hl 0 rfl) ?_
                      refine z_bipush X dX12_make_88 (by decide) ?_
                      refine z_icmp_le (tgt := 101) X dX12_make_90 (by decide) (by omega) (by omega) (fun c_28 => ?_) (fun c_28 => ?_)
                      · skip
                        refine lv_iload X.x X.b dX12_make_101 (lv_at hl 0 rfl) ?_
                        refine z_iadd X dX12_make_103 ?_
                        refine top_i (y := zI ((128 + (gap xs i) : Nat) : Int)) (congrArg zI (by omega)) ?_
                        refine z_bipush X dX12_make_104 (by decide) ?_
                        refine cv_v (c1 := 0) (s1 := 0) X hw [5, 0] [1, 2, 3, 4, 6] (wr := [((b 10), .inl (dA 2, 30, .inl f1)), ((b 11), .inl (dA 2, 30, .inl f2)), ((b 12), .inl (dA 2, 30, .inl f3)), ((b 13), .inl (dA 2, 30, .inl f4)), ((b 9), .inl (dA 2, 24, .inl fW))]) (va_runV (As := [.int (zI (((128 + (gap xs i) : Nat) : Int))), .int (zI 8)]) (rest := []) X.fix (mm_put l hst D dA b m0 m7 m9 m10 (zI (((encP 0 k xs i).length : Nat) : Int)) (zI ((xs.length : Nat) : Int)) m15 m16 m17 (encP 0 k xs i) (zI ((128 + (gap xs i) : Nat) : Int)) 8 f hf (by first | omega | (simp only [List.length_append, pb_len, List.length_replicate]; omega)) _) (cwV 2 X.t (lw_V q781 q783 qs16 q48 q784) rfl rfl rfl (by decide +kernel) (pc_rmle (by decide) (by decide))) (pc_preV X hw [5, 0] rfl rfl 10 5 rfl rfl rfl) rfl rfl hl.1 rfl (lv_room (Nat.le_of_ble_eq_true rfl)) dX12_make_106 ⟨Nat.le_of_ble_eq_true rfl, Nat.le_of_ble_eq_true rfl⟩) rfl rfl rfl rfl (fun _ _ => pc_c00) (fun u_30 H locs hq hw => ?_)
                        have hw : pc_S D A s.heap [((b 10), .inl (dA 2, 30, .inl f1)), ((b 11), .inl (dA 2, 30, .inl f2)), ((b 12), .inl (dA 2, 30, .inl f3)), ((b 13), .inl (dA 2, 30, .inl f4)), ((b 9), .inl (dA 2, 24, .inl fW)), ((b 0), .inr (10, [.int (m0), .ref (b 1), .ref (b 2), .ref (b 3), .ref (b 4), .ref (b 5), .ref (b 6), .int (m7), .ref (b 7), .int (m9), .int (m10), .int (zI (((((encP 0 k xs i) ++ pb (zI ((128 + (gap xs i) : Nat) : Int)) 8).length : Nat) : Int))), .ref (b 8), .int (zI (((xs.length : Nat) : Int))), .ref (b 9), .int (m15), .int (m16), .int (m17), .ref (b 10), .ref (b 11), .ref (b 12), .ref (b 13)])), ((b 8), .inl (dA 3, 400, .inl u_30))] H locs := hw
                        have hu_30 := hq
                        refine lv_goto (tgt := 170) X.x X.b dX12_make_109 (by decide) ?_
                        refine z_iinc (lv' := [(3, .int (zI (((i : Nat) : Int) + 1))), (4, .int (zI (((gap xs i : Nat) : Int)))), (0, .ref (b 0)), (1, .int (zI 0)), (2, .int (zI (((k : Nat) : Int))))]) X dX12_make_170 hl (k0 := 4) rfl (by decide) rfl (fun ls hl => ?_)
                        have hl : lv_has ls 6 [(3, .int (zI (((i + 1 : Nat) : Int)))), (4, .int (zI (((gap xs i : Nat) : Int)))), (0, .ref (b 0)), (1, .int (zI 0)), (2, .int (zI (((k : Nat) : Int))))] := by rw [show (((i + 1 : Nat) : Int) : Int) = ((i : Nat) : Int) + 1 from by omega]; exact hl
                        refine lv_goto (tgt := 40) X.x X.b dX12_make_173 (by decide) ?_
                        have e9_31 : (encP 0 k xs i) ++ pb (zI ((128 + (gap xs i) : Nat) : Int)) 8 = encP 0 k xs (i + 1) := by
                          rw [encP_succ]; show _ = _ ++ (if 127 < gap xs i then _ else _)
                          rw [if_neg (by omega)]
                        have hw : pc_S D A s.heap [((b 10), .inl (dA 2, 30, .inl f1)), ((b 11), .inl (dA 2, 30, .inl f2)), ((b 12), .inl (dA 2, 30, .inl f3)), ((b 13), .inl (dA 2, 30, .inl f4)), ((b 9), .inl (dA 2, 24, .inl fW)), ((b 0), .inr (10, [.int (m0), .ref (b 1), .ref (b 2), .ref (b 3), .ref (b 4), .ref (b 5), .ref (b 6), .int (m7), .ref (b 7), .int (m9), .int (m10), .int (zI ((((encP 0 k xs (i + 1)).length : Nat) : Int))), .ref (b 8), .int (zI (((xs.length : Nat) : Int))), .ref (b 9), .int (m15), .int (m16), .int (m17), .ref (b 10), .ref (b 11), .ref (b 12), .ref (b 13)])), ((b 8), .inl (dA 3, 400, .inl u_30))] H locs := by rw [← e9_31]; exact hw
                        have hu_30 := fe9 hu_30 e9_31
                        exact ih40  (i + 1) u_30 (by omega) hu_30 (by omega) H locs (hw.sub [5, 4, 6, 0, 1, 2, 3] rfl rfl) ls (lv_sub hl [2, 3, 4, 0] rfl)
                      · skip
                        omega
                    · skip
                      refine lv_aload_n X.x X.b dX12_make_71 rfl (lv_at hl 1 rfl) ?_
                      refine lv_iload X.x X.b dX12_make_72 (lv_at hl 0 rfl) ?_
                      refine z_bipush X dX12_make_74 (by decide) ?_
                      refine lv_iand X.x X.b dX12_make_76 ?_
                      refine top_i (y := zI ((gap xs i % 128 : Nat) : Int)) ((zI_and (n := gap xs i) (by omega) (m := 127) (by omega)).trans (congrArg (fun q : Nat => zI (q : Int)) (and127 (gap xs i)))) ?_
                      refine z_bipush X dX12_make_77 (by decide) ?_
                      refine cv_v (c1 := 0) (s1 := 0) X hw [5, 0] [1, 2, 3, 4, 6] (wr := [((b 10), .inl (dA 2, 30, .inl f1)), ((b 11), .inl (dA 2, 30, .inl f2)), ((b 12), .inl (dA 2, 30, .inl f3)), ((b 13), .inl (dA 2, 30, .inl f4)), ((b 9), .inl (dA 2, 24, .inl fW))]) (va_runV (As := [.int (zI (((gap xs i % 128 : Nat) : Int))), .int (zI 8)]) (rest := []) X.fix (mm_put l hst D dA b m0 m7 m9 m10 (zI (((encP 0 k xs i).length : Nat) : Int)) (zI ((xs.length : Nat) : Int)) m15 m16 m17 (encP 0 k xs i) (zI ((gap xs i % 128 : Nat) : Int)) 8 f hf (by first | omega | (simp only [List.length_append, pb_len, List.length_replicate]; omega)) _) (cwV 2 X.t (lw_V q781 q783 qs16 q48 q784) rfl rfl rfl (by decide +kernel) (pc_rmle (by decide) (by decide))) (pc_preV X hw [5, 0] rfl rfl 10 5 rfl rfl rfl) rfl rfl hl.1 rfl (lv_room (Nat.le_of_ble_eq_true rfl)) dX12_make_79 ⟨Nat.le_of_ble_eq_true rfl, Nat.le_of_ble_eq_true rfl⟩) rfl rfl rfl rfl (fun _ _ => pc_c00) (fun u_33 H locs hq hw => ?_)
                      have hw : pc_S D A s.heap [((b 10), .inl (dA 2, 30, .inl f1)), ((b 11), .inl (dA 2, 30, .inl f2)), ((b 12), .inl (dA 2, 30, .inl f3)), ((b 13), .inl (dA 2, 30, .inl f4)), ((b 9), .inl (dA 2, 24, .inl fW)), ((b 0), .inr (10, [.int (m0), .ref (b 1), .ref (b 2), .ref (b 3), .ref (b 4), .ref (b 5), .ref (b 6), .int (m7), .ref (b 7), .int (m9), .int (m10), .int (zI (((((encP 0 k xs i) ++ pb (zI ((gap xs i % 128 : Nat) : Int)) 8).length : Nat) : Int))), .ref (b 8), .int (zI (((xs.length : Nat) : Int))), .ref (b 9), .int (m15), .int (m16), .int (m17), .ref (b 10), .ref (b 11), .ref (b 12), .ref (b 13)])), ((b 8), .inl (dA 3, 400, .inl u_33))] H locs := hw
                      have hu_33 := hq
                      refine lv_aload_n X.x X.b dX12_make_82 rfl (lv_at hl 1 rfl) ?_
                      refine z_sipush X dX12_make_83 (by decide) ?_
                      refine lv_iload X.x X.b dX12_make_86 (lv_at hl 0 rfl) ?_
                      refine z_bipush X dX12_make_88 (by decide) ?_
                      refine z_icmp_le (tgt := 101) X dX12_make_90 (by decide) (by omega) (by omega) (fun c_34 => ?_) (fun c_34 => ?_)
                      · skip
                        omega
                      · skip
                        refine lv_iload X.x X.b dX12_make_93 (lv_at hl 0 rfl) ?_
                        refine z_bipush X dX12_make_95 (by decide) ?_
                        refine lv_ishr X.x X.b dX12_make_97 ?_
                        refine top_i (y := zI ((gap xs i / 128 : Nat) : Int)) (zI_shr (n := gap xs i) (by omega) (k := 7) (by omega)) ?_
                        refine lv_goto (tgt := 103) X.x X.b dX12_make_98 (by decide) ?_
                        refine z_iadd X dX12_make_103 ?_
                        refine top_i (y := zI ((128 + (gap xs i / 128) : Nat) : Int)) (congrArg zI (by omega)) ?_
                        refine z_bipush X dX12_make_104 (by decide) ?_
                        refine cv_v (c1 := 0) (s1 := 0) X hw [5, 6] [0, 1, 2, 3, 4] (wr := [((b 10), .inl (dA 2, 30, .inl f1)), ((b 11), .inl (dA 2, 30, .inl f2)), ((b 12), .inl (dA 2, 30, .inl f3)), ((b 13), .inl (dA 2, 30, .inl f4)), ((b 9), .inl (dA 2, 24, .inl fW))]) (va_runV (As := [.int (zI (((128 + (gap xs i / 128) : Nat) : Int))), .int (zI 8)]) (rest := []) X.fix (mm_put l hst D dA b m0 m7 m9 m10 (zI ((((encP 0 k xs i) ++ pb (zI ((gap xs i % 128 : Nat) : Int)) 8).length : Nat) : Int)) (zI ((xs.length : Nat) : Int)) m15 m16 m17 ((encP 0 k xs i) ++ pb (zI ((gap xs i % 128 : Nat) : Int)) 8) (zI ((128 + (gap xs i / 128) : Nat) : Int)) 8 u_33 hu_33 (by first | omega | (simp only [List.length_append, pb_len, List.length_replicate]; omega)) _) (cwV 2 X.t (lw_V q781 q783 qs16 q48 q784) rfl rfl rfl (by decide +kernel) (pc_rmle (by decide) (by decide))) (pc_preV X hw [5, 6] rfl rfl 10 5 rfl rfl rfl) rfl rfl hl.1 rfl (lv_room (Nat.le_of_ble_eq_true rfl)) dX12_make_106 ⟨Nat.le_of_ble_eq_true rfl, Nat.le_of_ble_eq_true rfl⟩) rfl rfl rfl rfl (fun _ _ => pc_c00) (fun u_36 H locs hq hw => ?_)
                        have hw : pc_S D A s.heap [((b 10), .inl (dA 2, 30, .inl f1)), ((b 11), .inl (dA 2, 30, .inl f2)), ((b 12), .inl (dA 2, 30, .inl f3)), ((b 13), .inl (dA 2, 30, .inl f4)), ((b 9), .inl (dA 2, 24, .inl fW)), ((b 0), .inr (10, [.int (m0), .ref (b 1), .ref (b 2), .ref (b 3), .ref (b 4), .ref (b 5), .ref (b 6), .int (m7), .ref (b 7), .int (m9), .int (m10), .int (zI ((((((encP 0 k xs i) ++ pb (zI ((gap xs i % 128 : Nat) : Int)) 8) ++ pb (zI ((128 + (gap xs i / 128) : Nat) : Int)) 8).length : Nat) : Int))), .ref (b 8), .int (zI (((xs.length : Nat) : Int))), .ref (b 9), .int (m15), .int (m16), .int (m17), .ref (b 10), .ref (b 11), .ref (b 12), .ref (b 13)])), ((b 8), .inl (dA 3, 400, .inl u_36))] H locs := hw
                        have hu_36 := hq
                        refine lv_goto (tgt := 170) X.x X.b dX12_make_109 (by decide) ?_
                        refine z_iinc (lv' := [(3, .int (zI (((i : Nat) : Int) + 1))), (4, .int (zI (((gap xs i : Nat) : Int)))), (0, .ref (b 0)), (1, .int (zI 0)), (2, .int (zI (((k : Nat) : Int))))]) X dX12_make_170 hl (k0 := 4) rfl (by decide) rfl (fun ls hl => ?_)
                        have hl : lv_has ls 6 [(3, .int (zI (((i + 1 : Nat) : Int)))), (4, .int (zI (((gap xs i : Nat) : Int)))), (0, .ref (b 0)), (1, .int (zI 0)), (2, .int (zI (((k : Nat) : Int))))] := by rw [show (((i + 1 : Nat) : Int) : Int) = ((i : Nat) : Int) + 1 from by omega]; exact hl
                        refine lv_goto (tgt := 40) X.x X.b dX12_make_173 (by decide) ?_
                        have e9_37 : ((encP 0 k xs i) ++ pb (zI ((gap xs i % 128 : Nat) : Int)) 8) ++ pb (zI ((128 + (gap xs i / 128) : Nat) : Int)) 8 = encP 0 k xs (i + 1) := by
                          rw [encP_succ]; show _ = _ ++ (if 127 < gap xs i then _ else _)
                          rw [if_pos (by omega), List.append_assoc]
                        have hw : pc_S D A s.heap [((b 10), .inl (dA 2, 30, .inl f1)), ((b 11), .inl (dA 2, 30, .inl f2)), ((b 12), .inl (dA 2, 30, .inl f3)), ((b 13), .inl (dA 2, 30, .inl f4)), ((b 9), .inl (dA 2, 24, .inl fW)), ((b 0), .inr (10, [.int (m0), .ref (b 1), .ref (b 2), .ref (b 3), .ref (b 4), .ref (b 5), .ref (b 6), .int (m7), .ref (b 7), .int (m9), .int (m10), .int (zI ((((encP 0 k xs (i + 1)).length : Nat) : Int))), .ref (b 8), .int (zI (((xs.length : Nat) : Int))), .ref (b 9), .int (m15), .int (m16), .int (m17), .ref (b 10), .ref (b 11), .ref (b 12), .ref (b 13)])), ((b 8), .inl (dA 3, 400, .inl u_36))] H locs := by rw [← e9_37]; exact hw
                        have hu_36 := fe9 hu_36 e9_37
                        exact ih40  (i + 1) u_36 (by omega) hu_36 (by omega) H locs (hw.sub [5, 4, 6, 0, 1, 2, 3] rfl rfl) ls (lv_sub hl [2, 3, 4, 0] rfl)
          exact B40 _ 0 f (Nat.zero_le _) (RowIs.nil f) (Nat.lt_succ_self _) H locs hw ls (lv_sub hl [1, 2, 3, 0] rfl)
        · skip
          omega
      · skip
        omega
    · skip
      omega
  · skip
    have hv1 := hv.1
    refine lv_aload_n X.x X.b dX12_make_0 rfl (lv_at hl 0 rfl) ?_
    refine z_iconst X dX12_make_1 ?_
    refine z_put X hw in_X12 tyX12 tyX12_ok nmX12 0 rfl rfl 11 (by decide) q675 rfl rfl rfl rfl (Nat.le_of_ble_eq_true rfl) dX12_make_2 (fun H locs hw => ?_)
    have hw : pc_S D A s.heap [((b 0), .inr (10, [.int (m0), .ref (b 1), .ref (b 2), .ref (b 3), .ref (b 4), .ref (b 5), .ref (b 6), .int (m7), .ref (b 7), .int (m9), .int (m10), .int (zI 0), .ref (b 8), .int (zI (((xs.length : Nat) : Int))), .ref (b 9), .int (m15), .int (m16), .int (m17), .ref (b 10), .ref (b 11), .ref (b 12), .ref (b 13)])), ((b 9), .inl (dA 2, 24, .inl fW)), ((b 8), .inl (dA 3, 400, .inl f)), ((b 10), .inl (dA 2, 30, .inl f1)), ((b 11), .inl (dA 2, 30, .inl f2)), ((b 12), .inl (dA 2, 30, .inl f3)), ((b 13), .inl (dA 2, 30, .inl f4))] H locs := hw
    refine lv_iload_n X.x X.b dX12_make_5 rfl (lv_at hl 1 rfl) ?_
    refine z_iconst X dX12_make_6 ?_
    refine z_icmp_ne (tgt := 17) X dX12_make_7 (by decide) (by omega) (by omega) (fun c_38 => ?_) (fun c_38 => ?_)
    · skip
      refine lv_iload_n X.x X.b dX12_make_17 rfl (lv_at hl 1 rfl) ?_
      refine z_iconst X dX12_make_18 ?_
      refine z_icmp_ne (tgt := 29) X dX12_make_19 (by decide) (by omega) (by omega) (fun c_39 => ?_) (fun c_39 => ?_)
      · skip
        refine lv_iload_n X.x X.b dX12_make_29 rfl (lv_at hl 1 rfl) ?_
        refine z_iconst X dX12_make_30 ?_
        refine z_icmp_ne (tgt := 38) X dX12_make_31 (by decide) (by omega) (by omega) (fun c_40 => ?_) (fun c_40 => ?_)
        · skip
          refine z_iconst X dX12_make_38 ?_
          refine lv_istore_n (lv' := [(3, .int (zI 0)), (0, .ref (b 0)), (1, .int (zI 1)), (2, .int (zI (((k : Nat) : Int))))]) X.x X.b dX12_make_39 rfl hl (by decide) rfl (fun ls hl => ?_)
          have B40 : ∀ (NN : Nat) (i : Nat) (f : Nat → Int32) (hi : i ≤ xs.length) (hf : RowIs (encP 1 k xs i) f) (hNN : xs.length - i < NN) (H : Heap) (locs : List Loc), pc_S D A s.heap [((b 0), .inr (10, [.int (m0), .ref (b 1), .ref (b 2), .ref (b 3), .ref (b 4), .ref (b 5), .ref (b 6), .int (m7), .ref (b 7), .int (m9), .int (m10), .int (zI ((((encP 1 k xs i).length : Nat) : Int))), .ref (b 8), .int (zI (((xs.length : Nat) : Int))), .ref (b 9), .int (m15), .int (m16), .int (m17), .ref (b 10), .ref (b 11), .ref (b 12), .ref (b 13)])), ((b 9), .inl (dA 2, 24, .inl fW)), ((b 8), .inl (dA 3, 400, .inl f)), ((b 10), .inl (dA 2, 30, .inl f1)), ((b 11), .inl (dA 2, 30, .inl f2)), ((b 12), .inl (dA 2, 30, .inl f3)), ((b 13), .inl (dA 2, 30, .inl f4))] H locs → ∀ ls : Array Slot, lv_has ls 6 [(0, .ref (b 0)), (1, .int (zI 1)), (2, .int (zI (((k : Nat) : Int)))), (3, .int (zI (((i : Nat) : Int))))] → W pg l ev (pc_rm 4 0 0) s mt args below meth cd H locs 0 0 Q (F0 mt 40 ls []) := by
            intro NN
            induction NN with
            | zero => intro i f hi hf hNN; exact absurd hNN (Nat.not_lt_zero _)
            | succ NN ih40 =>
              intro i f hi hf hNN H locs hw ls hl
              have hln := encP_len (c := 1) hv hk i hi
              refine lv_iload_n X.x X.b dX12_make_40 rfl (lv_at hl 3 rfl) ?_
              refine lv_aload_n X.x X.b dX12_make_41 rfl (lv_at hl 0 rfl) ?_
              refine z_get X hw in_X12 0 rfl rfl 13 (by decide) q677 rfl rfl dX12_make_42 ?_
              refine z_icmp_ge (tgt := 176) X dX12_make_45 (by decide) (by omega) (by omega) (fun c_41 => ?_) (fun c_41 => ?_)
              · skip
                have hi9 : i = xs.length := by omega
                rw [hi9] at hw hf
                exact exit (f, m17, f1, f2, f3, f4) dX12_make_176 hf hw (Nat.zero_le _) (Nat.zero_le _)
              · skip
                refine lv_iload_n X.x X.b dX12_make_48 rfl (lv_at hl 1 rfl) ?_
                refine z_iconst X dX12_make_49 ?_
                refine z_icmp_ge (tgt := 176) X dX12_make_50 (by decide) (by omega) (by omega) (fun c_42 => ?_) (fun c_42 => ?_)
                · skip
                  omega
                · skip
                  refine lv_aload_n X.x X.b dX12_make_53 rfl (lv_at hl 0 rfl) ?_
                  refine lv_iload_n X.x X.b dX12_make_54 rfl (lv_at hl 3 rfl) ?_
                  refine cv_i (c1 := 0) (s1 := 0) X hw [0, 1] [2, 3, 4, 5, 6] (wr := [((b 8), .inl (dA 3, 400, .inl f)), ((b 10), .inl (dA 2, 30, .inl f1)), ((b 11), .inl (dA 2, 30, .inl f2)), ((b 12), .inl (dA 2, 30, .inl f3)), ((b 13), .inl (dA 2, 30, .inl f4))]) (va_runV (As := [.int (zI (((i : Nat) : Int)))]) (rest := []) X.fix (mm_less l hst D dA b m0 m7 m9 m10 (zI (((encP 1 k xs i).length : Nat) : Int)) (zI ((xs.length : Nat) : Int)) m15 m16 m17 fW xs hv hW i (by omega) _) (cwV 1 X.t (lw_V q774 q776 qs15 q48 q777) rfl rfl rfl (by decide +kernel) (pc_rmle (by decide) (by decide))) (pc_preV X hw [0, 1] rfl rfl 10 0 rfl rfl rfl) rfl rfl hl.1 rfl (lv_room (Nat.le_of_ble_eq_true rfl)) dX12_make_55 ⟨Nat.le_of_ble_eq_true rfl, Nat.le_of_ble_eq_true rfl⟩) rfl rfl rfl rfl (fun _ _ _ => pc_c00) (fun r_43 u_44 H locs hq hw => ?_)
                  have hw : pc_S D A s.heap [((b 8), .inl (dA 3, 400, .inl f)), ((b 10), .inl (dA 2, 30, .inl f1)), ((b 11), .inl (dA 2, 30, .inl f2)), ((b 12), .inl (dA 2, 30, .inl f3)), ((b 13), .inl (dA 2, 30, .inl f4)), ((b 0), .inr (10, [.int (m0), .ref (b 1), .ref (b 2), .ref (b 3), .ref (b 4), .ref (b 5), .ref (b 6), .int (m7), .ref (b 7), .int (m9), .int (m10), .int (zI ((((encP 1 k xs i).length : Nat) : Int))), .ref (b 8), .int (zI (((xs.length : Nat) : Int))), .ref (b 9), .int (m15), .int (m16), .int (m17), .ref (b 10), .ref (b 11), .ref (b 12), .ref (b 13)])), ((b 9), .inl (dA 2, 24, .inl fW))] H locs := hw
                  subst hq
                  have hgp := gap_le hv (i := i) (by omega)
                  have hdv : gap xs i / 2 ^ k ≤ gap xs i := Nat.div_le_self _ _
                  have hbp := blen_pos (x := gap xs i + 1) (by omega)
                  have hb13 : blen (gap xs i + 1) ≤ 13 := blen_max (by omega)
                  refine lv_istore (lv' := [(4, .int (zI (((gap xs i : Nat) : Int)))), (0, .ref (b 0)), (1, .int (zI 1)), (2, .int (zI (((k : Nat) : Int)))), (3, .int (zI (((i : Nat) : Int))))]) X.x X.b dX12_make_58 hl (by decide) rfl (fun ls hl => ?_)
                  refine lv_iload_n X.x X.b dX12_make_60 rfl (lv_at hl 2 rfl) ?_
                  refine z_if_ne (tgt := 112) X dX12_make_61 (by decide) (by omega) (fun c_45 => ?_) (fun c_45 => ?_)
                  · skip
                    refine lv_iload_n X.x X.b dX12_make_112 rfl (lv_at hl 2 rfl) ?_
                    refine z_iconst X dX12_make_113 ?_
                    refine z_icmp_ne (tgt := 148) X dX12_make_114 (by decide) (by omega) (by omega) (fun c_46 => ?_) (fun c_46 => ?_)
                    · skip
                      omega
                    · skip
                      refine lv_iload X.x X.b dX12_make_117 (lv_at hl 0 rfl) ?_
                      refine z_iconst X dX12_make_119 ?_
                      refine z_iadd X dX12_make_120 ?_
                      refine top_i (y := zI (((gap xs i) + 1 : Nat) : Int)) (congrArg zI (by omega)) ?_
                      refine cv_i (c1 := 0) (s1 := 0) X hw [] [0, 1, 2, 3, 4, 5, 6] (wr := [((b 8), .inl (dA 3, 400, .inl f)), ((b 10), .inl (dA 2, 30, .inl f1)), ((b 11), .inl (dA 2, 30, .inl f2)), ((b 12), .inl (dA 2, 30, .inl f3)), ((b 13), .inl (dA 2, 30, .inl f4)), ((b 0), .inr (10, [.int (m0), .ref (b 1), .ref (b 2), .ref (b 3), .ref (b 4), .ref (b 5), .ref (b 6), .int (m7), .ref (b 7), .int (m9), .int (m10), .int (zI ((((encP 1 k xs i).length : Nat) : Int))), .ref (b 8), .int (zI (((xs.length : Nat) : Int))), .ref (b 9), .int (m15), .int (m16), .int (m17), .ref (b 10), .ref (b 11), .ref (b 12), .ref (b 13)])), ((b 9), .inl (dA 2, 24, .inl fW))]) (va_runS (As := [.int (zI ((((gap xs i) + 1 : Nat) : Int)))]) (rest := []) X.fix (mm_bits l hst D dA ((gap xs i) + 1) (by omega) _) (va_cwS 1 X.t (lw_S q778 q779 q48 q780) rfl rfl rfl (by decide +kernel) (pc_rmle (by decide) (by decide))) (pc_preS X hw [] rfl rfl) rfl rfl hl.1 rfl (lv_room (Nat.le_of_ble_eq_true rfl)) dX12_make_121 ⟨Nat.le_of_ble_eq_true rfl, Nat.le_of_ble_eq_true rfl⟩) rfl rfl rfl rfl (fun _ _ _ => pc_c00) (fun r_47 u_48 H locs hq hw => ?_)
                      have hw : pc_S D A s.heap [((b 8), .inl (dA 3, 400, .inl f)), ((b 10), .inl (dA 2, 30, .inl f1)), ((b 11), .inl (dA 2, 30, .inl f2)), ((b 12), .inl (dA 2, 30, .inl f3)), ((b 13), .inl (dA 2, 30, .inl f4)), ((b 0), .inr (10, [.int (m0), .ref (b 1), .ref (b 2), .ref (b 3), .ref (b 4), .ref (b 5), .ref (b 6), .int (m7), .ref (b 7), .int (m9), .int (m10), .int (zI ((((encP 1 k xs i).length : Nat) : Int))), .ref (b 8), .int (zI (((xs.length : Nat) : Int))), .ref (b 9), .int (m15), .int (m16), .int (m17), .ref (b 10), .ref (b 11), .ref (b 12), .ref (b 13)])), ((b 9), .inl (dA 2, 24, .inl fW))] H locs := hw
                      subst hq
                      refine lv_istore (lv' := [(5, .int (zI (((blen ((gap xs i) + 1) : Nat) : Int)))), (4, .int (zI (((gap xs i : Nat) : Int)))), (0, .ref (b 0)), (1, .int (zI 1)), (2, .int (zI (((k : Nat) : Int)))), (3, .int (zI (((i : Nat) : Int))))]) X.x X.b dX12_make_124 hl (by decide) rfl (fun ls hl => ?_)
                      refine lv_aload_n X.x X.b dX12_make_126 rfl (lv_at hl 2 rfl) ?_
                      refine z_iconst X dX12_make_127 ?_
                      refine lv_iload X.x X.b dX12_make_128 (lv_at hl 0 rfl) ?_
                      refine z_iconst X dX12_make_130 ?_
                      refine z_isub X dX12_make_131 ?_
                      refine top_i (y := zI ((blen (gap xs i + 1) - 1 : Nat) : Int)) (congrArg zI (by omega)) ?_
                      refine cv_v (c1 := 0) (s1 := 0) X hw [5, 0] [1, 2, 3, 4, 6] (wr := [((b 10), .inl (dA 2, 30, .inl f1)), ((b 11), .inl (dA 2, 30, .inl f2)), ((b 12), .inl (dA 2, 30, .inl f3)), ((b 13), .inl (dA 2, 30, .inl f4)), ((b 9), .inl (dA 2, 24, .inl fW))]) (va_runV (As := [.int (zI 0), .int (zI (((blen (gap xs i + 1) - 1 : Nat) : Int)))]) (rest := []) X.fix (mm_putMany l hst D dA b m0 m7 m9 m10 (zI (((encP 1 k xs i).length : Nat) : Int)) (zI ((xs.length : Nat) : Int)) m15 m16 m17 (encP 1 k xs i) false (blen (gap xs i + 1) - 1) f hf (by first | omega | (simp only [List.length_append, pb_len, List.length_replicate]; omega)) _) (cwV 2 X.t (lw_V q792 q794 qs18 q48 q795) rfl rfl rfl (by decide +kernel) (pc_rmle (by decide) (by decide))) (pc_preV X hw [5, 0] rfl rfl 10 5 rfl rfl rfl) rfl rfl hl.1 rfl (lv_room (Nat.le_of_ble_eq_true rfl)) dX12_make_132 ⟨Nat.le_of_ble_eq_true rfl, Nat.le_of_ble_eq_true rfl⟩) rfl rfl rfl rfl (fun _ _ => pc_c00) (fun u_50 H locs hq hw => ?_)
                      have hw : pc_S D A s.heap [((b 10), .inl (dA 2, 30, .inl f1)), ((b 11), .inl (dA 2, 30, .inl f2)), ((b 12), .inl (dA 2, 30, .inl f3)), ((b 13), .inl (dA 2, 30, .inl f4)), ((b 9), .inl (dA 2, 24, .inl fW)), ((b 0), .inr (10, [.int (m0), .ref (b 1), .ref (b 2), .ref (b 3), .ref (b 4), .ref (b 5), .ref (b 6), .int (m7), .ref (b 7), .int (m9), .int (m10), .int (zI (((((encP 1 k xs i) ++ List.replicate (blen (gap xs i + 1) - 1) false).length : Nat) : Int))), .ref (b 8), .int (zI (((xs.length : Nat) : Int))), .ref (b 9), .int (m15), .int (m16), .int (m17), .ref (b 10), .ref (b 11), .ref (b 12), .ref (b 13)])), ((b 8), .inl (dA 3, 400, .inl u_50))] H locs := hw
                      have hu_50 := hq
                      refine lv_aload_n X.x X.b dX12_make_135 rfl (lv_at hl 2 rfl) ?_
                      refine lv_iload X.x X.b dX12_make_136 (lv_at hl 1 rfl) ?_
                      refine z_iconst X dX12_make_138 ?_
                      refine z_iadd X dX12_make_139 ?_
                      refine top_i (y := zI (((gap xs i) + 1 : Nat) : Int)) (congrArg zI (by omega)) ?_
                      refine lv_iload X.x X.b dX12_make_140 (lv_at hl 0 rfl) ?_
                      refine cv_v (c1 := 0) (s1 := 0) X hw [5, 6] [0, 1, 2, 3, 4] (wr := [((b 10), .inl (dA 2, 30, .inl f1)), ((b 11), .inl (dA 2, 30, .inl f2)), ((b 12), .inl (dA 2, 30, .inl f3)), ((b 13), .inl (dA 2, 30, .inl f4)), ((b 9), .inl (dA 2, 24, .inl fW))]) (va_runV (As := [.int (zI ((((gap xs i) + 1 : Nat) : Int))), .int (zI (((blen ((gap xs i) + 1) : Nat) : Int)))]) (rest := []) X.fix (mm_put l hst D dA b m0 m7 m9 m10 (zI ((((encP 1 k xs i) ++ List.replicate (blen (gap xs i + 1) - 1) false).length : Nat) : Int)) (zI ((xs.length : Nat) : Int)) m15 m16 m17 ((encP 1 k xs i) ++ List.replicate (blen (gap xs i + 1) - 1) false) (zI (((gap xs i) + 1 : Nat) : Int)) (blen ((gap xs i) + 1)) u_50 hu_50 (by first | omega | (simp only [List.length_append, pb_len, List.length_replicate]; omega)) _) (cwV 2 X.t (lw_V q781 q783 qs16 q48 q784) rfl rfl rfl (by decide +kernel) (pc_rmle (by decide) (by decide))) (pc_preV X hw [5, 6] rfl rfl 10 5 rfl rfl rfl) rfl rfl hl.1 rfl (lv_room (Nat.le_of_ble_eq_true rfl)) dX12_make_142 ⟨Nat.le_of_ble_eq_true rfl, Nat.le_of_ble_eq_true rfl⟩) rfl rfl rfl rfl (fun _ _ => pc_c00) (fun u_52 H locs hq hw => ?_)
                      have hw : pc_S D A s.heap [((b 10), .inl (dA 2, 30, .inl f1)), ((b 11), .inl (dA 2, 30, .inl f2)), ((b 12), .inl (dA 2, 30, .inl f3)), ((b 13), .inl (dA 2, 30, .inl f4)), ((b 9), .inl (dA 2, 24, .inl fW)), ((b 0), .inr (10, [.int (m0), .ref (b 1), .ref (b 2), .ref (b 3), .ref (b 4), .ref (b 5), .ref (b 6), .int (m7), .ref (b 7), .int (m9), .int (m10), .int (zI ((((((encP 1 k xs i) ++ List.replicate (blen (gap xs i + 1) - 1) false) ++ pb (zI (((gap xs i) + 1 : Nat) : Int)) (blen ((gap xs i) + 1))).length : Nat) : Int))), .ref (b 8), .int (zI (((xs.length : Nat) : Int))), .ref (b 9), .int (m15), .int (m16), .int (m17), .ref (b 10), .ref (b 11), .ref (b 12), .ref (b 13)])), ((b 8), .inl (dA 3, 400, .inl u_52))] H locs := hw
                      have hu_52 := hq
                      refine lv_goto (tgt := 170) X.x X.b dX12_make_145 (by decide) ?_
                      refine z_iinc (lv' := [(3, .int (zI (((i : Nat) : Int) + 1))), (5, .int (zI (((blen ((gap xs i) + 1) : Nat) : Int)))), (4, .int (zI (((gap xs i : Nat) : Int)))), (0, .ref (b 0)), (1, .int (zI 1)), (2, .int (zI (((k : Nat) : Int))))]) X dX12_make_170 hl (k0 := 5) rfl (by decide) rfl (fun ls hl => ?_)
                      have hl : lv_has ls 6 [(3, .int (zI (((i + 1 : Nat) : Int)))), (5, .int (zI (((blen ((gap xs i) + 1) : Nat) : Int)))), (4, .int (zI (((gap xs i : Nat) : Int)))), (0, .ref (b 0)), (1, .int (zI 1)), (2, .int (zI (((k : Nat) : Int))))] := by rw [show (((i + 1 : Nat) : Int) : Int) = ((i : Nat) : Int) + 1 from by omega]; exact hl
                      refine lv_goto (tgt := 40) X.x X.b dX12_make_173 (by decide) ?_
                      have e9_53 : ((encP 1 k xs i) ++ List.replicate (blen (gap xs i + 1) - 1) false) ++ pb (zI (((gap xs i) + 1 : Nat) : Int)) (blen ((gap xs i) + 1)) = encP 1 k xs (i + 1) := by
                        rw [encP_succ]; show _ = _ ++ (pb (zI 0) (blen (gap xs i + 1) - 1) ++ pb (zI ((gap xs i + 1 : Nat) : Int)) (blen (gap xs i + 1)))
                        rw [pb_zero, List.append_assoc]
                      have hw : pc_S D A s.heap [((b 10), .inl (dA 2, 30, .inl f1)), ((b 11), .inl (dA 2, 30, .inl f2)), ((b 12), .inl (dA 2, 30, .inl f3)), ((b 13), .inl (dA 2, 30, .inl f4)), ((b 9), .inl (dA 2, 24, .inl fW)), ((b 0), .inr (10, [.int (m0), .ref (b 1), .ref (b 2), .ref (b 3), .ref (b 4), .ref (b 5), .ref (b 6), .int (m7), .ref (b 7), .int (m9), .int (m10), .int (zI ((((encP 1 k xs (i + 1)).length : Nat) : Int))), .ref (b 8), .int (zI (((xs.length : Nat) : Int))), .ref (b 9), .int (m15), .int (m16), .int (m17), .ref (b 10), .ref (b 11), .ref (b 12), .ref (b 13)])), ((b 8), .inl (dA 3, 400, .inl u_52))] H locs := by rw [← e9_53]; exact hw
                      have hu_52 := fe9 hu_52 e9_53
                      exact ih40  (i + 1) u_52 (by omega) hu_52 (by omega) H locs (hw.sub [5, 4, 6, 0, 1, 2, 3] rfl rfl) ls (lv_sub hl [3, 4, 5, 0] rfl)
                  · skip
                    omega
          exact B40 _ 0 f (Nat.zero_le _) (RowIs.nil f) (Nat.lt_succ_self _) H locs hw ls (lv_sub hl [1, 2, 3, 0] rfl)
        · skip
          omega
      · skip
        omega
    · skip
      omega
  · skip
    have hv1 := hv.1
    refine lv_aload_n X.x X.b dX12_make_0 rfl (lv_at hl 0 rfl) ?_
    refine z_iconst X dX12_make_1 ?_
    refine z_put X hw in_X12 tyX12 tyX12_ok nmX12 0 rfl rfl 11 (by decide) q675 rfl rfl rfl rfl (Nat.le_of_ble_eq_true rfl) dX12_make_2 (fun H locs hw => ?_)
    have hw : pc_S D A s.heap [((b 0), .inr (10, [.int (m0), .ref (b 1), .ref (b 2), .ref (b 3), .ref (b 4), .ref (b 5), .ref (b 6), .int (m7), .ref (b 7), .int (m9), .int (m10), .int (zI 0), .ref (b 8), .int (zI (((xs.length : Nat) : Int))), .ref (b 9), .int (m15), .int (m16), .int (m17), .ref (b 10), .ref (b 11), .ref (b 12), .ref (b 13)])), ((b 9), .inl (dA 2, 24, .inl fW)), ((b 8), .inl (dA 3, 400, .inl f)), ((b 10), .inl (dA 2, 30, .inl f1)), ((b 11), .inl (dA 2, 30, .inl f2)), ((b 12), .inl (dA 2, 30, .inl f3)), ((b 13), .inl (dA 2, 30, .inl f4))] H locs := hw
    refine lv_iload_n X.x X.b dX12_make_5 rfl (lv_at hl 1 rfl) ?_
    refine z_iconst X dX12_make_6 ?_
    refine z_icmp_ne (tgt := 17) X dX12_make_7 (by decide) (by omega) (by omega) (fun c_54 => ?_) (fun c_54 => ?_)
    · skip
      refine lv_iload_n X.x X.b dX12_make_17 rfl (lv_at hl 1 rfl) ?_
      refine z_iconst X dX12_make_18 ?_
      refine z_icmp_ne (tgt := 29) X dX12_make_19 (by decide) (by omega) (by omega) (fun c_55 => ?_) (fun c_55 => ?_)
      · skip
        refine lv_iload_n X.x X.b dX12_make_29 rfl (lv_at hl 1 rfl) ?_
        refine z_iconst X dX12_make_30 ?_
        refine z_icmp_ne (tgt := 38) X dX12_make_31 (by decide) (by omega) (by omega) (fun c_56 => ?_) (fun c_56 => ?_)
        · skip
          refine z_iconst X dX12_make_38 ?_
          refine lv_istore_n (lv' := [(3, .int (zI 0)), (0, .ref (b 0)), (1, .int (zI 2)), (2, .int (zI (((k : Nat) : Int))))]) X.x X.b dX12_make_39 rfl hl (by decide) rfl (fun ls hl => ?_)
          have B40 : ∀ (NN : Nat) (i : Nat) (f : Nat → Int32) (hi : i ≤ xs.length) (hf : RowIs (encP 2 k xs i) f) (hNN : xs.length - i < NN) (H : Heap) (locs : List Loc), pc_S D A s.heap [((b 0), .inr (10, [.int (m0), .ref (b 1), .ref (b 2), .ref (b 3), .ref (b 4), .ref (b 5), .ref (b 6), .int (m7), .ref (b 7), .int (m9), .int (m10), .int (zI ((((encP 2 k xs i).length : Nat) : Int))), .ref (b 8), .int (zI (((xs.length : Nat) : Int))), .ref (b 9), .int (m15), .int (m16), .int (m17), .ref (b 10), .ref (b 11), .ref (b 12), .ref (b 13)])), ((b 9), .inl (dA 2, 24, .inl fW)), ((b 8), .inl (dA 3, 400, .inl f)), ((b 10), .inl (dA 2, 30, .inl f1)), ((b 11), .inl (dA 2, 30, .inl f2)), ((b 12), .inl (dA 2, 30, .inl f3)), ((b 13), .inl (dA 2, 30, .inl f4))] H locs → ∀ ls : Array Slot, lv_has ls 6 [(0, .ref (b 0)), (1, .int (zI 2)), (2, .int (zI (((k : Nat) : Int)))), (3, .int (zI (((i : Nat) : Int))))] → W pg l ev (pc_rm 4 0 0) s mt args below meth cd H locs 0 0 Q (F0 mt 40 ls []) := by
            intro NN
            induction NN with
            | zero => intro i f hi hf hNN; exact absurd hNN (Nat.not_lt_zero _)
            | succ NN ih40 =>
              intro i f hi hf hNN H locs hw ls hl
              have hln := encP_len (c := 2) hv hk i hi
              refine lv_iload_n X.x X.b dX12_make_40 rfl (lv_at hl 3 rfl) ?_
              refine lv_aload_n X.x X.b dX12_make_41 rfl (lv_at hl 0 rfl) ?_
              refine z_get X hw in_X12 0 rfl rfl 13 (by decide) q677 rfl rfl dX12_make_42 ?_
              refine z_icmp_ge (tgt := 176) X dX12_make_45 (by decide) (by omega) (by omega) (fun c_57 => ?_) (fun c_57 => ?_)
              · skip
                have hi9 : i = xs.length := by omega
                rw [hi9] at hw hf
                exact exit (f, m17, f1, f2, f3, f4) dX12_make_176 hf hw (Nat.zero_le _) (Nat.zero_le _)
              · skip
                refine lv_iload_n X.x X.b dX12_make_48 rfl (lv_at hl 1 rfl) ?_
                refine z_iconst X dX12_make_49 ?_
                refine z_icmp_ge (tgt := 176) X dX12_make_50 (by decide) (by omega) (by omega) (fun c_58 => ?_) (fun c_58 => ?_)
                · skip
                  omega
                · skip
                  refine lv_aload_n X.x X.b dX12_make_53 rfl (lv_at hl 0 rfl) ?_
                  refine lv_iload_n X.x X.b dX12_make_54 rfl (lv_at hl 3 rfl) ?_
                  refine cv_i (c1 := 0) (s1 := 0) X hw [0, 1] [2, 3, 4, 5, 6] (wr := [((b 8), .inl (dA 3, 400, .inl f)), ((b 10), .inl (dA 2, 30, .inl f1)), ((b 11), .inl (dA 2, 30, .inl f2)), ((b 12), .inl (dA 2, 30, .inl f3)), ((b 13), .inl (dA 2, 30, .inl f4))]) (va_runV (As := [.int (zI (((i : Nat) : Int)))]) (rest := []) X.fix (mm_less l hst D dA b m0 m7 m9 m10 (zI (((encP 2 k xs i).length : Nat) : Int)) (zI ((xs.length : Nat) : Int)) m15 m16 m17 fW xs hv hW i (by omega) _) (cwV 1 X.t (lw_V q774 q776 qs15 q48 q777) rfl rfl rfl (by decide +kernel) (pc_rmle (by decide) (by decide))) (pc_preV X hw [0, 1] rfl rfl 10 0 rfl rfl rfl) rfl rfl hl.1 rfl (lv_room (Nat.le_of_ble_eq_true rfl)) dX12_make_55 ⟨Nat.le_of_ble_eq_true rfl, Nat.le_of_ble_eq_true rfl⟩) rfl rfl rfl rfl (fun _ _ _ => pc_c00) (fun r_59 u_60 H locs hq hw => ?_)
                  have hw : pc_S D A s.heap [((b 8), .inl (dA 3, 400, .inl f)), ((b 10), .inl (dA 2, 30, .inl f1)), ((b 11), .inl (dA 2, 30, .inl f2)), ((b 12), .inl (dA 2, 30, .inl f3)), ((b 13), .inl (dA 2, 30, .inl f4)), ((b 0), .inr (10, [.int (m0), .ref (b 1), .ref (b 2), .ref (b 3), .ref (b 4), .ref (b 5), .ref (b 6), .int (m7), .ref (b 7), .int (m9), .int (m10), .int (zI ((((encP 2 k xs i).length : Nat) : Int))), .ref (b 8), .int (zI (((xs.length : Nat) : Int))), .ref (b 9), .int (m15), .int (m16), .int (m17), .ref (b 10), .ref (b 11), .ref (b 12), .ref (b 13)])), ((b 9), .inl (dA 2, 24, .inl fW))] H locs := hw
                  subst hq
                  have hgp := gap_le hv (i := i) (by omega)
                  have hdv : gap xs i / 2 ^ k ≤ gap xs i := Nat.div_le_self _ _
                  have hbp := blen_pos (x := gap xs i + 1) (by omega)
                  have hb13 : blen (gap xs i + 1) ≤ 13 := blen_max (by omega)
                  refine lv_istore (lv' := [(4, .int (zI (((gap xs i : Nat) : Int)))), (0, .ref (b 0)), (1, .int (zI 2)), (2, .int (zI (((k : Nat) : Int)))), (3, .int (zI (((i : Nat) : Int))))]) X.x X.b dX12_make_58 hl (by decide) rfl (fun ls hl => ?_)
                  refine lv_iload_n X.x X.b dX12_make_60 rfl (lv_at hl 2 rfl) ?_
                  refine z_if_ne (tgt := 112) X dX12_make_61 (by decide) (by omega) (fun c_61 => ?_) (fun c_61 => ?_)
                  · skip
                    refine lv_iload_n X.x X.b dX12_make_112 rfl (lv_at hl 2 rfl) ?_
                    refine z_iconst X dX12_make_113 ?_
                    refine z_icmp_ne (tgt := 148) X dX12_make_114 (by decide) (by omega) (by omega) (fun c_62 => ?_) (fun c_62 => ?_)
                    · skip
                      refine lv_aload_n X.x X.b dX12_make_148 rfl (lv_at hl 1 rfl) ?_
                      refine z_iconst X dX12_make_149 ?_
                      refine lv_iload X.x X.b dX12_make_150 (lv_at hl 0 rfl) ?_
                      refine lv_iload_n X.x X.b dX12_make_152 rfl (lv_at hl 3 rfl) ?_
                      refine lv_ishr X.x X.b dX12_make_153 ?_
                      refine top_i (y := zI (((gap xs i) / 2 ^ k : Nat) : Int)) (zI_shr (n := (gap xs i)) (by omega) (k := k) (by omega)) ?_
                      refine cv_v (c1 := 0) (s1 := 0) X hw [5, 0] [1, 2, 3, 4, 6] (wr := [((b 10), .inl (dA 2, 30, .inl f1)), ((b 11), .inl (dA 2, 30, .inl f2)), ((b 12), .inl (dA 2, 30, .inl f3)), ((b 13), .inl (dA 2, 30, .inl f4)), ((b 9), .inl (dA 2, 24, .inl fW))]) (va_runV (As := [.int (zI 1), .int (zI ((((gap xs i) / 2 ^ k : Nat) : Int)))]) (rest := []) X.fix (mm_putMany l hst D dA b m0 m7 m9 m10 (zI (((encP 2 k xs i).length : Nat) : Int)) (zI ((xs.length : Nat) : Int)) m15 m16 m17 (encP 2 k xs i) true ((gap xs i) / 2 ^ k) f hf (by first | omega | (simp only [List.length_append, pb_len, List.length_replicate]; omega)) _) (cwV 2 X.t (lw_V q792 q794 qs18 q48 q795) rfl rfl rfl (by decide +kernel) (pc_rmle (by decide) (by decide))) (pc_preV X hw [5, 0] rfl rfl 10 5 rfl rfl rfl) rfl rfl hl.1 rfl (lv_room (Nat.le_of_ble_eq_true rfl)) dX12_make_154 ⟨Nat.le_of_ble_eq_true rfl, Nat.le_of_ble_eq_true rfl⟩) rfl rfl rfl rfl (fun _ _ => pc_c00) (fun u_64 H locs hq hw => ?_)
                      have hw : pc_S D A s.heap [((b 10), .inl (dA 2, 30, .inl f1)), ((b 11), .inl (dA 2, 30, .inl f2)), ((b 12), .inl (dA 2, 30, .inl f3)), ((b 13), .inl (dA 2, 30, .inl f4)), ((b 9), .inl (dA 2, 24, .inl fW)), ((b 0), .inr (10, [.int (m0), .ref (b 1), .ref (b 2), .ref (b 3), .ref (b 4), .ref (b 5), .ref (b 6), .int (m7), .ref (b 7), .int (m9), .int (m10), .int (zI (((((encP 2 k xs i) ++ List.replicate ((gap xs i) / 2 ^ k) true).length : Nat) : Int))), .ref (b 8), .int (zI (((xs.length : Nat) : Int))), .ref (b 9), .int (m15), .int (m16), .int (m17), .ref (b 10), .ref (b 11), .ref (b 12), .ref (b 13)])), ((b 8), .inl (dA 3, 400, .inl u_64))] H locs := hw
                      have hu_64 := hq
                      refine lv_aload_n X.x X.b dX12_make_157 rfl (lv_at hl 1 rfl) ?_
                      refine z_iconst X dX12_make_158 ?_
                      refine z_iconst X dX12_make_159 ?_
                      refine cv_v (c1 := 0) (s1 := 0) X hw [5, 6] [0, 1, 2, 3, 4] (wr := [((b 10), .inl (dA 2, 30, .inl f1)), ((b 11), .inl (dA 2, 30, .inl f2)), ((b 12), .inl (dA 2, 30, .inl f3)), ((b 13), .inl (dA 2, 30, .inl f4)), ((b 9), .inl (dA 2, 24, .inl fW))]) (va_runV (As := [.int (zI 0), .int (zI 1)]) (rest := []) X.fix (mm_put l hst D dA b m0 m7 m9 m10 (zI ((((encP 2 k xs i) ++ List.replicate ((gap xs i) / 2 ^ k) true).length : Nat) : Int)) (zI ((xs.length : Nat) : Int)) m15 m16 m17 ((encP 2 k xs i) ++ List.replicate ((gap xs i) / 2 ^ k) true) (zI 0) 1 u_64 hu_64 (by first | omega | (simp only [List.length_append, pb_len, List.length_replicate]; omega)) _) (cwV 2 X.t (lw_V q781 q783 qs16 q48 q784) rfl rfl rfl (by decide +kernel) (pc_rmle (by decide) (by decide))) (pc_preV X hw [5, 6] rfl rfl 10 5 rfl rfl rfl) rfl rfl hl.1 rfl (lv_room (Nat.le_of_ble_eq_true rfl)) dX12_make_160 ⟨Nat.le_of_ble_eq_true rfl, Nat.le_of_ble_eq_true rfl⟩) rfl rfl rfl rfl (fun _ _ => pc_c00) (fun u_66 H locs hq hw => ?_)
                      have hw : pc_S D A s.heap [((b 10), .inl (dA 2, 30, .inl f1)), ((b 11), .inl (dA 2, 30, .inl f2)), ((b 12), .inl (dA 2, 30, .inl f3)), ((b 13), .inl (dA 2, 30, .inl f4)), ((b 9), .inl (dA 2, 24, .inl fW)), ((b 0), .inr (10, [.int (m0), .ref (b 1), .ref (b 2), .ref (b 3), .ref (b 4), .ref (b 5), .ref (b 6), .int (m7), .ref (b 7), .int (m9), .int (m10), .int (zI ((((((encP 2 k xs i) ++ List.replicate ((gap xs i) / 2 ^ k) true) ++ pb (zI 0) 1).length : Nat) : Int))), .ref (b 8), .int (zI (((xs.length : Nat) : Int))), .ref (b 9), .int (m15), .int (m16), .int (m17), .ref (b 10), .ref (b 11), .ref (b 12), .ref (b 13)])), ((b 8), .inl (dA 3, 400, .inl u_66))] H locs := hw
                      have hu_66 := hq
                      refine lv_aload_n X.x X.b dX12_make_163 rfl (lv_at hl 1 rfl) ?_
                      refine lv_iload X.x X.b dX12_make_164 (lv_at hl 0 rfl) ?_
                      refine lv_iload_n X.x X.b dX12_make_166 rfl (lv_at hl 3 rfl) ?_
                      refine cv_v (c1 := 0) (s1 := 0) X hw [5, 6] [0, 1, 2, 3, 4] (wr := [((b 10), .inl (dA 2, 30, .inl f1)), ((b 11), .inl (dA 2, 30, .inl f2)), ((b 12), .inl (dA 2, 30, .inl f3)), ((b 13), .inl (dA 2, 30, .inl f4)), ((b 9), .inl (dA 2, 24, .inl fW))]) (va_runV (As := [.int (zI (((gap xs i : Nat) : Int))), .int (zI (((k : Nat) : Int)))]) (rest := []) X.fix (mm_put l hst D dA b m0 m7 m9 m10 (zI (((((encP 2 k xs i) ++ List.replicate ((gap xs i) / 2 ^ k) true) ++ pb (zI 0) 1).length : Nat) : Int)) (zI ((xs.length : Nat) : Int)) m15 m16 m17 (((encP 2 k xs i) ++ List.replicate ((gap xs i) / 2 ^ k) true) ++ pb (zI 0) 1) (zI ((gap xs i : Nat) : Int)) k u_66 hu_66 (by first | omega | (simp only [List.length_append, pb_len, List.length_replicate]; omega)) _) (cwV 2 X.t (lw_V q781 q783 qs16 q48 q784) rfl rfl rfl (by decide +kernel) (pc_rmle (by decide) (by decide))) (pc_preV X hw [5, 6] rfl rfl 10 5 rfl rfl rfl) rfl rfl hl.1 rfl (lv_room (Nat.le_of_ble_eq_true rfl)) dX12_make_167 ⟨Nat.le_of_ble_eq_true rfl, Nat.le_of_ble_eq_true rfl⟩) rfl rfl rfl rfl (fun _ _ => pc_c00) (fun u_68 H locs hq hw => ?_)
                      have hw : pc_S D A s.heap [((b 10), .inl (dA 2, 30, .inl f1)), ((b 11), .inl (dA 2, 30, .inl f2)), ((b 12), .inl (dA 2, 30, .inl f3)), ((b 13), .inl (dA 2, 30, .inl f4)), ((b 9), .inl (dA 2, 24, .inl fW)), ((b 0), .inr (10, [.int (m0), .ref (b 1), .ref (b 2), .ref (b 3), .ref (b 4), .ref (b 5), .ref (b 6), .int (m7), .ref (b 7), .int (m9), .int (m10), .int (zI (((((((encP 2 k xs i) ++ List.replicate ((gap xs i) / 2 ^ k) true) ++ pb (zI 0) 1) ++ pb (zI ((gap xs i : Nat) : Int)) k).length : Nat) : Int))), .ref (b 8), .int (zI (((xs.length : Nat) : Int))), .ref (b 9), .int (m15), .int (m16), .int (m17), .ref (b 10), .ref (b 11), .ref (b 12), .ref (b 13)])), ((b 8), .inl (dA 3, 400, .inl u_68))] H locs := hw
                      have hu_68 := hq
                      refine z_iinc (lv' := [(3, .int (zI (((i : Nat) : Int) + 1))), (4, .int (zI (((gap xs i : Nat) : Int)))), (0, .ref (b 0)), (1, .int (zI 2)), (2, .int (zI (((k : Nat) : Int))))]) X dX12_make_170 hl (k0 := 4) rfl (by decide) rfl (fun ls hl => ?_)
                      have hl : lv_has ls 6 [(3, .int (zI (((i + 1 : Nat) : Int)))), (4, .int (zI (((gap xs i : Nat) : Int)))), (0, .ref (b 0)), (1, .int (zI 2)), (2, .int (zI (((k : Nat) : Int))))] := by rw [show (((i + 1 : Nat) : Int) : Int) = ((i : Nat) : Int) + 1 from by omega]; exact hl
                      refine lv_goto (tgt := 40) X.x X.b dX12_make_173 (by decide) ?_
                      have e9_69 : (((encP 2 k xs i) ++ List.replicate ((gap xs i) / 2 ^ k) true) ++ pb (zI 0) 1) ++ pb (zI ((gap xs i : Nat) : Int)) k = encP 2 k xs (i + 1) := by
                        rw [encP_succ]; show _ = _ ++ (List.replicate (gap xs i / 2 ^ k) true ++ (pb (zI 0) 1 ++ pb (zI ((gap xs i : Nat) : Int)) k))
                        simp only [List.append_assoc]
                      have hw : pc_S D A s.heap [((b 10), .inl (dA 2, 30, .inl f1)), ((b 11), .inl (dA 2, 30, .inl f2)), ((b 12), .inl (dA 2, 30, .inl f3)), ((b 13), .inl (dA 2, 30, .inl f4)), ((b 9), .inl (dA 2, 24, .inl fW)), ((b 0), .inr (10, [.int (m0), .ref (b 1), .ref (b 2), .ref (b 3), .ref (b 4), .ref (b 5), .ref (b 6), .int (m7), .ref (b 7), .int (m9), .int (m10), .int (zI ((((encP 2 k xs (i + 1)).length : Nat) : Int))), .ref (b 8), .int (zI (((xs.length : Nat) : Int))), .ref (b 9), .int (m15), .int (m16), .int (m17), .ref (b 10), .ref (b 11), .ref (b 12), .ref (b 13)])), ((b 8), .inl (dA 3, 400, .inl u_68))] H locs := by rw [← e9_69]; exact hw
                      have hu_68 := fe9 hu_68 e9_69
                      exact ih40  (i + 1) u_68 (by omega) hu_68 (by omega) H locs (hw.sub [5, 4, 6, 0, 1, 2, 3] rfl rfl) ls (lv_sub hl [2, 3, 4, 0] rfl)
                    · skip
                      omega
                  · skip
                    omega
          exact B40 _ 0 f (Nat.zero_le _) (RowIs.nil f) (Nat.lt_succ_self _) H locs hw ls (lv_sub hl [1, 2, 3, 0] rfl)
        · skip
          omega
      · skip
        omega
    · skip
      omega
set_option maxHeartbeats 4000000 in
/-- bitsOf -/
theorem mm_bitsOf (l : Launch) (hst : l.stackTraces = false) (D : va_G) (dA : Nat → ClassId) (b : Nat → Nat) (m0 m7 m9 m10 m11 m13 m15 m16 m17 : Int32) (fN fM fC fK f fW f1 f2 f3 f4 : Nat → Int32) (k : Nat) (hk : k < 4) (xs : List Nat) (hv : Valid xs) (hM : fM k = zI ((xs.length : Nat) : Int)) (hN : ∀ i, i < xs.length → fN (24 * k + i) = zI ((xs.getD i 0 : Nat) : Int)) (cz qz : Int) (bs : List Bool) (hC : fC k = zI cz) (hK : fK k = zI qz) (hI : LI xs cz qz bs) : pc_I l yX12_bitsOf cX12_bitsOf 2 .int (pc_rm 5 0 0) D dA [.ref (b 0), .int (zI (((k : Nat) : Int)))] [((b 0), .inr (10, [.int (m0), .ref (b 1), .ref (b 2), .ref (b 3), .ref (b 4), .ref (b 5), .ref (b 6), .int (m7), .ref (b 7), .int (m9), .int (m10), .int (m11), .ref (b 8), .int (m13), .ref (b 9), .int (m15), .int (m16), .int (m17), .ref (b 10), .ref (b 11), .ref (b 12), .ref (b 13)])), ((b 1), .inl (dA 2, 96, .inl fN)), ((b 2), .inl (dA 2, 4, .inl fM)), ((b 3), .inl (dA 2, 4, .inl fC)), ((b 4), .inl (dA 2, 4, .inl fK)), ((b 8), .inl (dA 3, 400, .inl f)), ((b 9), .inl (dA 2, 24, .inl fW)), ((b 10), .inl (dA 2, 30, .inl f1)), ((b 11), .inl (dA 2, 30, .inl f2)), ((b 12), .inl (dA 2, 30, .inl f3)), ((b 13), .inl (dA 2, 30, .inl f4))] (fun r (u : (Int32 × Int32 × Int32 × (Nat → Nat → Int32))) => r = zI ((bs.length : Nat) : Int) ∧ (0 ≤ cz → RowIs bs (u.2.2.2 0))) (fun u : (Int32 × Int32 × Int32 × (Nat → Nat → Int32)) => [((b 0), .inr (10, [.int (m0), .ref (b 1), .ref (b 2), .ref (b 3), .ref (b 4), .ref (b 5), .ref (b 6), .int (m7), .ref (b 7), .int (m9), .int (m10), .int (u.1), .ref (b 8), .int (u.2.1), .ref (b 9), .int (m15), .int (m16), .int (u.2.2.1), .ref (b 10), .ref (b 11), .ref (b 12), .ref (b 13)])), ((b 1), .inl (dA 2, 96, .inl fN)), ((b 2), .inl (dA 2, 4, .inl fM)), ((b 3), .inl (dA 2, 4, .inl fC)), ((b 4), .inl (dA 2, 4, .inl fK)), ((b 8), .inl (dA 3, 400, .inl (u.2.2.2 0))), ((b 9), .inl (dA 2, 24, .inl (u.2.2.2 1))), ((b 10), .inl (dA 2, 30, .inl (u.2.2.2 2))), ((b 11), .inl (dA 2, 30, .inl (u.2.2.2 3))), ((b 12), .inl (dA 2, 30, .inl (u.2.2.2 4))), ((b 13), .inl (dA 2, 30, .inl (u.2.2.2 5)))]) := by
  refine st_i hst (by decide) RX12 rfl (Nat.le_of_ble_eq_true rfl) ?_
  intro pg ev s mt args below meth cd R A Q hR X exit H locs hw ls hl
  subst hR
  have hl : lv_has ls 2 [(0, .ref (b 0)), (1, .int (zI (((k : Nat) : Int))))] := hl
  rcases (show cz = -1 ∨ 0 ≤ cz by have := hI.1; omega) with ho | ho
  · skip
    refine lv_aload_n X.x X.b dX12_bitsOf_0 rfl (lv_at hl 0 rfl) ?_
    refine lv_iload_n X.x X.b dX12_bitsOf_1 rfl (lv_at hl 1 rfl) ?_
    refine cv_i (c1 := 0) (s1 := 0) X hw [0, 3] [1, 2, 4, 5, 6, 7, 8, 9, 10] (wr := [((b 1), .inl (dA 2, 96, .inl fN)), ((b 2), .inl (dA 2, 4, .inl fM)), ((b 4), .inl (dA 2, 4, .inl fK)), ((b 8), .inl (dA 3, 400, .inl f)), ((b 9), .inl (dA 2, 24, .inl fW)), ((b 10), .inl (dA 2, 30, .inl f1)), ((b 11), .inl (dA 2, 30, .inl f2)), ((b 12), .inl (dA 2, 30, .inl f3)), ((b 13), .inl (dA 2, 30, .inl f4))]) (va_runV (As := [.int (zI (((k : Nat) : Int)))]) (rest := []) X.fix (mm_isOpen_t l hst D dA b m0 m7 m9 m10 m11 m13 m15 m16 m17 fC k (by omega) cz hC hI.1 (by omega) _) (cwV 1 X.t (lw_V q751 q753 qs11 q48 q754) rfl rfl rfl (by decide +kernel) (pc_rmle (by decide) (by decide))) (pc_preV X hw [0, 3] rfl rfl 10 0 rfl rfl rfl) rfl rfl hl.1 rfl (lv_room (Nat.le_of_ble_eq_true rfl)) dX12_bitsOf_2 ⟨Nat.le_of_ble_eq_true rfl, Nat.le_of_ble_eq_true rfl⟩) rfl rfl rfl rfl (fun _ _ _ => pc_c00) (fun r_1 u_2 H locs hq hw => ?_)
    have hw : pc_S D A s.heap [((b 1), .inl (dA 2, 96, .inl fN)), ((b 2), .inl (dA 2, 4, .inl fM)), ((b 4), .inl (dA 2, 4, .inl fK)), ((b 8), .inl (dA 3, 400, .inl f)), ((b 9), .inl (dA 2, 24, .inl fW)), ((b 10), .inl (dA 2, 30, .inl f1)), ((b 11), .inl (dA 2, 30, .inl f2)), ((b 12), .inl (dA 2, 30, .inl f3)), ((b 13), .inl (dA 2, 30, .inl f4)), ((b 0), .inr (10, [.int (m0), .ref (b 1), .ref (b 2), .ref (b 3), .ref (b 4), .ref (b 5), .ref (b 6), .int (m7), .ref (b 7), .int (m9), .int (m10), .int (m11), .ref (b 8), .int (m13), .ref (b 9), .int (m15), .int (m16), .int (m17), .ref (b 10), .ref (b 11), .ref (b 12), .ref (b 13)])), ((b 3), .inl (dA 2, 4, .inl fC))] H locs := hw
    subst hq
    refine z_if_eq (tgt := 10) X dX12_bitsOf_5 (by decide) (by omega) (fun c_3 => ?_) (fun c_3 => ?_)
    · skip
      omega
    · skip
      refine z_iconst X dX12_bitsOf_8 ?_
      have hw : pc_S D A s.heap [((b 0), .inr (10, [.int (m0), .ref (b 1), .ref (b 2), .ref (b 3), .ref (b 4), .ref (b 5), .ref (b 6), .int (m7), .ref (b 7), .int (m9), .int (m10), .int (m11), .ref (b 8), .int (m13), .ref (b 9), .int (m15), .int (m16), .int (m17), .ref (b 10), .ref (b 11), .ref (b 12), .ref (b 13)])), ((b 1), .inl (dA 2, 96, .inl fN)), ((b 2), .inl (dA 2, 4, .inl fM)), ((b 3), .inl (dA 2, 4, .inl fC)), ((b 4), .inl (dA 2, 4, .inl fK)), ((b 8), .inl (dA 3, 400, .inl f)), ((b 9), .inl (dA 2, 24, .inl fW)), ((b 10), .inl (dA 2, 30, .inl f1)), ((b 11), .inl (dA 2, 30, .inl f2)), ((b 12), .inl (dA 2, 30, .inl f3)), ((b 13), .inl (dA 2, 30, .inl f4))] H locs := hw.sub [9, 0, 1, 10, 2, 3, 4, 5, 6, 7, 8] rfl rfl
      exact exit (m11, m13, m17, a6 f fW f1 f2 f3 f4) dX12_bitsOf_9 rfl ⟨by rw [(hI.2.1 ho).2]; rfl, fun h => absurd h (by omega)⟩ hw (Nat.zero_le _) (Nat.zero_le _)
  · skip
    obtain ⟨hq1, hq2, hb⟩ := hI.2.2.1 ho
    have hI1 := hI.1
    obtain ⟨c, rfl⟩ : ∃ i : Nat, cz = (i : Int) := ⟨cz.toNat, by omega⟩
    obtain ⟨q, rfl⟩ : ∃ i : Nat, qz = (i : Int) := ⟨qz.toNat, by omega⟩
    rw [Int.toNat_natCast, Int.toNat_natCast] at hb
    refine lv_aload_n X.x X.b dX12_bitsOf_0 rfl (lv_at hl 0 rfl) ?_
    refine lv_iload_n X.x X.b dX12_bitsOf_1 rfl (lv_at hl 1 rfl) ?_
    refine cv_i (c1 := 0) (s1 := 0) X hw [0, 3] [1, 2, 4, 5, 6, 7, 8, 9, 10] (wr := [((b 1), .inl (dA 2, 96, .inl fN)), ((b 2), .inl (dA 2, 4, .inl fM)), ((b 4), .inl (dA 2, 4, .inl fK)), ((b 8), .inl (dA 3, 400, .inl f)), ((b 9), .inl (dA 2, 24, .inl fW)), ((b 10), .inl (dA 2, 30, .inl f1)), ((b 11), .inl (dA 2, 30, .inl f2)), ((b 12), .inl (dA 2, 30, .inl f3)), ((b 13), .inl (dA 2, 30, .inl f4))]) (va_runV (As := [.int (zI (((k : Nat) : Int)))]) (rest := []) X.fix (mm_isOpen_f l hst D dA b m0 m7 m9 m10 m11 m13 m15 m16 m17 fC k (by omega) ((c : Nat) : Int) hC hI1 (by omega) _) (cwV 1 X.t (lw_V q751 q753 qs11 q48 q754) rfl rfl rfl (by decide +kernel) (pc_rmle (by decide) (by decide))) (pc_preV X hw [0, 3] rfl rfl 10 0 rfl rfl rfl) rfl rfl hl.1 rfl (lv_room (Nat.le_of_ble_eq_true rfl)) dX12_bitsOf_2 ⟨Nat.le_of_ble_eq_true rfl, Nat.le_of_ble_eq_true rfl⟩) rfl rfl rfl rfl (fun _ _ _ => pc_c00) (fun r_4 u_5 H locs hq hw => ?_)
    have hw : pc_S D A s.heap [((b 1), .inl (dA 2, 96, .inl fN)), ((b 2), .inl (dA 2, 4, .inl fM)), ((b 4), .inl (dA 2, 4, .inl fK)), ((b 8), .inl (dA 3, 400, .inl f)), ((b 9), .inl (dA 2, 24, .inl fW)), ((b 10), .inl (dA 2, 30, .inl f1)), ((b 11), .inl (dA 2, 30, .inl f2)), ((b 12), .inl (dA 2, 30, .inl f3)), ((b 13), .inl (dA 2, 30, .inl f4)), ((b 0), .inr (10, [.int (m0), .ref (b 1), .ref (b 2), .ref (b 3), .ref (b 4), .ref (b 5), .ref (b 6), .int (m7), .ref (b 7), .int (m9), .int (m10), .int (m11), .ref (b 8), .int (m13), .ref (b 9), .int (m15), .int (m16), .int (m17), .ref (b 10), .ref (b 11), .ref (b 12), .ref (b 13)])), ((b 3), .inl (dA 2, 4, .inl fC))] H locs := hw
    subst hq
    refine z_if_eq (tgt := 10) X dX12_bitsOf_5 (by decide) (by omega) (fun c_6 => ?_) (fun c_6 => ?_)
    · skip
      refine lv_aload_n X.x X.b dX12_bitsOf_10 rfl (lv_at hl 0 rfl) ?_
      refine lv_iload_n X.x X.b dX12_bitsOf_11 rfl (lv_at hl 1 rfl) ?_
      refine cv_v (c1 := 0) (s1 := 0) X hw [9, 0, 1, 4] [2, 3, 5, 6, 7, 8, 10] (wr := [((b 4), .inl (dA 2, 4, .inl fK)), ((b 8), .inl (dA 3, 400, .inl f)), ((b 10), .inl (dA 2, 30, .inl f1)), ((b 11), .inl (dA 2, 30, .inl f2)), ((b 12), .inl (dA 2, 30, .inl f3)), ((b 13), .inl (dA 2, 30, .inl f4)), ((b 3), .inl (dA 2, 4, .inl fC))]) (va_runV (As := [.int (zI (((k : Nat) : Int)))]) (rest := []) X.fix (mm_fetch l hst D dA b m0 m7 m9 m10 m11 m13 m15 m16 m17 fN fM fW k (by omega) xs hv.1 hM hN _) (cwV 1 X.t (lw_V q762 q764 qs12 q48 q765) rfl rfl rfl (by decide +kernel) (pc_rmle (by decide) (by decide))) (pc_preV X hw [9, 0, 1, 4] rfl rfl 10 9 rfl rfl rfl) rfl rfl hl.1 rfl (lv_room (Nat.le_of_ble_eq_true rfl)) dX12_bitsOf_12 ⟨Nat.le_of_ble_eq_true rfl, Nat.le_of_ble_eq_true rfl⟩) rfl rfl rfl rfl (fun _ _ => pc_c00) (fun u_8 H locs hq hw => ?_)
      have hw : pc_S D A s.heap [((b 4), .inl (dA 2, 4, .inl fK)), ((b 8), .inl (dA 3, 400, .inl f)), ((b 10), .inl (dA 2, 30, .inl f1)), ((b 11), .inl (dA 2, 30, .inl f2)), ((b 12), .inl (dA 2, 30, .inl f3)), ((b 13), .inl (dA 2, 30, .inl f4)), ((b 3), .inl (dA 2, 4, .inl fC)), ((b 0), .inr (10, [.int (m0), .ref (b 1), .ref (b 2), .ref (b 3), .ref (b 4), .ref (b 5), .ref (b 6), .int (m7), .ref (b 7), .int (m9), .int (m10), .int (m11), .ref (b 8), .int (zI (((xs.length : Nat) : Int))), .ref (b 9), .int (m15), .int (m16), .int (m17), .ref (b 10), .ref (b 11), .ref (b 12), .ref (b 13)])), ((b 1), .inl (dA 2, 96, .inl fN)), ((b 2), .inl (dA 2, 4, .inl fM)), ((b 9), .inl (dA 2, 24, .inl u_8))] H locs := hw
      have hu_8 := hq
      refine lv_aload_n X.x X.b dX12_bitsOf_15 rfl (lv_at hl 0 rfl) ?_
      refine lv_aload_n X.x X.b dX12_bitsOf_16 rfl (lv_at hl 0 rfl) ?_
      refine z_get X hw in_X12 7 rfl rfl 3 (by decide) q667 rfl rfl dX12_bitsOf_17 ?_
      refine lv_iload_n X.x X.b dX12_bitsOf_20 rfl (lv_at hl 1 rfl) ?_
      refine z_iald X hw 6 k rfl (by decide) (by omega) (v := zI ((c : Nat) : Int)) hC dX12_bitsOf_21 ?_
      refine lv_aload_n X.x X.b dX12_bitsOf_22 rfl (lv_at hl 0 rfl) ?_
      refine z_get X hw in_X12 7 rfl rfl 4 (by decide) q668 rfl rfl dX12_bitsOf_23 ?_
      refine lv_iload_n X.x X.b dX12_bitsOf_26 rfl (lv_at hl 1 rfl) ?_
      refine z_iald X hw 0 k rfl (by decide) (by omega) (v := zI ((q : Nat) : Int)) hK dX12_bitsOf_27 ?_
      refine cv_v (c1 := 0) (s1 := 0) X hw [7, 10, 1, 2, 3, 4, 5] [0, 6, 8, 9] (wr := [((b 4), .inl (dA 2, 4, .inl fK)), ((b 3), .inl (dA 2, 4, .inl fC)), ((b 1), .inl (dA 2, 96, .inl fN)), ((b 2), .inl (dA 2, 4, .inl fM))]) (va_runV (As := [.int (zI (((c : Nat) : Int))), .int (zI (((q : Nat) : Int)))]) (rest := []) X.fix (mm_make l hst D dA b m0 m7 m9 m10 m11 (zI ((xs.length : Nat) : Int)) m15 m16 m17 xs hv u_8 f hu_8 f1 f2 f3 f4 c q (by omega) (by omega) _) (cwV 2 X.t (lw_V q766 q768 qs13 q48 q769) rfl rfl rfl (by decide +kernel) (pc_rmle (by decide) (by decide))) (pc_preV X hw [7, 10, 1, 2, 3, 4, 5] rfl rfl 10 7 rfl rfl rfl) rfl rfl hl.1 rfl (lv_room (Nat.le_of_ble_eq_true rfl)) dX12_bitsOf_28 ⟨Nat.le_of_ble_eq_true rfl, Nat.le_of_ble_eq_true rfl⟩) rfl rfl rfl rfl (fun _ _ => pc_c00) (fun u_10 H locs hq hw => ?_)
      obtain ⟨u_10_0, u_10_1, u_10_2, u_10_3, u_10_4, u_10_5⟩ := u_10
      have hw : pc_S D A s.heap [((b 4), .inl (dA 2, 4, .inl fK)), ((b 3), .inl (dA 2, 4, .inl fC)), ((b 1), .inl (dA 2, 96, .inl fN)), ((b 2), .inl (dA 2, 4, .inl fM)), ((b 0), .inr (10, [.int (m0), .ref (b 1), .ref (b 2), .ref (b 3), .ref (b 4), .ref (b 5), .ref (b 6), .int (m7), .ref (b 7), .int (m9), .int (m10), .int (zI ((((enc c q xs).length : Nat) : Int))), .ref (b 8), .int (zI (((xs.length : Nat) : Int))), .ref (b 9), .int (m15), .int (m16), .int (u_10_1), .ref (b 10), .ref (b 11), .ref (b 12), .ref (b 13)])), ((b 9), .inl (dA 2, 24, .inl u_8)), ((b 8), .inl (dA 3, 400, .inl u_10_0)), ((b 10), .inl (dA 2, 30, .inl u_10_2)), ((b 11), .inl (dA 2, 30, .inl u_10_3)), ((b 12), .inl (dA 2, 30, .inl u_10_4)), ((b 13), .inl (dA 2, 30, .inl u_10_5))] H locs := hw
      have hu_10 := hq
      refine lv_aload_n X.x X.b dX12_bitsOf_31 rfl (lv_at hl 0 rfl) ?_
      refine z_get X hw in_X12 4 rfl rfl 11 (by decide) q675 rfl rfl dX12_bitsOf_32 ?_
      have hw : pc_S D A s.heap [((b 0), .inr (10, [.int (m0), .ref (b 1), .ref (b 2), .ref (b 3), .ref (b 4), .ref (b 5), .ref (b 6), .int (m7), .ref (b 7), .int (m9), .int (m10), .int (zI ((((enc c q xs).length : Nat) : Int))), .ref (b 8), .int (zI (((xs.length : Nat) : Int))), .ref (b 9), .int (m15), .int (m16), .int (u_10_1), .ref (b 10), .ref (b 11), .ref (b 12), .ref (b 13)])), ((b 1), .inl (dA 2, 96, .inl fN)), ((b 2), .inl (dA 2, 4, .inl fM)), ((b 3), .inl (dA 2, 4, .inl fC)), ((b 4), .inl (dA 2, 4, .inl fK)), ((b 8), .inl (dA 3, 400, .inl u_10_0)), ((b 9), .inl (dA 2, 24, .inl u_8)), ((b 10), .inl (dA 2, 30, .inl u_10_2)), ((b 11), .inl (dA 2, 30, .inl u_10_3)), ((b 12), .inl (dA 2, 30, .inl u_10_4)), ((b 13), .inl (dA 2, 30, .inl u_10_5))] H locs := hw.sub [4, 2, 3, 1, 0, 6, 5, 7, 8, 9, 10] rfl rfl
      exact exit (zI (((enc c q xs).length : Nat) : Int), zI ((xs.length : Nat) : Int), u_10_1, a6 u_10_0 u_8 u_10_2 u_10_3 u_10_4 u_10_5) dX12_bitsOf_35 rfl ⟨by rw [hb], fun _ => by rw [hb]; exact hu_10⟩ hw (Nat.zero_le _) (Nat.zero_le _)
    · skip
      omega
