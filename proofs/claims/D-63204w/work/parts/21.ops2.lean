/-! POSTINGCODES: the public methods, more -/
set_option maxRecDepth 100000
def aboutV (xs : List Nat) (bl : Nat) (cz kz w : Int) : Int := if w = 0 then (xs.length : Int) else if w = 1 then (bl : Int) else if w = 2 then cz else if w = 3 then kz else lastN xs
def countV (ml bl : Nat → Nat) (cz : Nat → Int) (pl wn bn : Nat) (w : Int) : Int := if w = 0 then (pl : Int) else if w = 1 then ((sumN (if false = true then bl else ml) (fun j => decide (cz j ≠ -1) || !false) 4 : Nat) : Int) else if w = 2 then ((sumN (if true = true then bl else ml) (fun j => decide (cz j ≠ -1) || !false) 4 : Nat) : Int) else if w = 3 then (wn : Int) else (bn : Int)
def rateV (sb sn : Nat) : UInt32 := if sn = 0 then FP.fconst0 else FP.fdiv (FP.i2f (zI (sb : Int))) (FP.i2f (zI (sn : Int)))
def dOk (f : Jvm.FP.Core.Fmt) : Jvm.FP.Core.Datum → Prop
  | .nan => False
  | .inf _ => True
  | .fin _ c q => c < 2 ^ f.p ∧ q ≤ f.qmax
theorem bound_ok (f : Jvm.FP.Core.Fmt) (s : Bool) (c : Nat) (q : Int) (h : c < 2 ^ f.p) : dOk f (Jvm.FP.Core.bound f s c q) := by
  unfold Jvm.FP.Core.bound
  split
  · exact ⟨h, by assumption⟩
  · exact trivial
theorem ratio_ok (f : Jvm.FP.Core.Fmt) (hf : f = Jvm.FP.Core.b32 ∨ f = Jvm.FP.Core.b64) (s : Bool) (n d : Nat) (e : Int) : dOk f (Jvm.FP.Core.roundRatio f s n d e) := by
  have ht : f.tails < 2 ^ f.p ∧ 0 < 2 ^ f.p ∧ f.qmin ≤ f.qmax := by rcases hf with rfl | rfl <;> decide
  unfold Jvm.FP.Core.roundRatio
  split
  · exact ⟨ht.2.1, ht.2.2⟩
  · unfold Jvm.FP.Core.roundAt Jvm.FP.Core.settle
    split
    · exact bound_ok f _ _ _ (by assumption)
    · exact bound_ok f _ _ _ ht.1
theorem enc32_ok {d : Jvm.FP.Core.Datum} (h : dOk Jvm.FP.Core.b32 d) : Jvm.FP.Core.encode Jvm.FP.Core.b32 d % 2 ^ 31 ≤ 2139095040 := by
  have h1 : Jvm.FP.Core.b32.tails = 8388608 := rfl
  have h2 : Jvm.FP.Core.b32.exps = 256 := rfl
  have h3 : Jvm.FP.Core.b32.qmin = -149 := rfl
  have h4 : Jvm.FP.Core.b32.qmax = 104 := rfl
  cases d with
  | nan => exact h.elim
  | inf s => cases s <;> decide
  | fin s c q =>
    have hc : c < 16777216 := h.1
    have hq : q ≤ 104 := h.2
    unfold Jvm.FP.Core.encode Jvm.FP.Core.assemble
    dsimp only
    rw [h1, h2, h3]
    have hs : s.toNat ≤ 1 := Bool.toNat_le s
    split
    · omega
    · omega
theorem enc64_ok {d : Jvm.FP.Core.Datum} (h : dOk Jvm.FP.Core.b64 d) : Jvm.FP.Core.encode Jvm.FP.Core.b64 d % 2 ^ 63 ≤ 9218868437227405312 := by
  have h1 : Jvm.FP.Core.b64.tails = 4503599627370496 := rfl
  have h2 : Jvm.FP.Core.b64.exps = 2048 := rfl
  have h3 : Jvm.FP.Core.b64.qmin = -1074 := rfl
  have h4 : Jvm.FP.Core.b64.qmax = 971 := rfl
  cases d with
  | nan => exact h.elim
  | inf s => cases s <;> decide
  | fin s c q =>
    have hc : c < 9007199254740992 := h.1
    have hq : q ≤ 971 := h.2
    unfold Jvm.FP.Core.encode Jvm.FP.Core.assemble
    dsimp only
    rw [h1, h2, h3]
    have hs : s.toNat ≤ 1 := Bool.toNat_le s
    split
    · omega
    · omega
def isFin (z : Bool) : Jvm.FP.Core.Datum → Bool
  | .fin _ c _ => z || c != 0
  | _ => false
theorem i2f_fins : (List.range 1601).all (fun a => isFin (a == 0) (Jvm.FP.Core.decode Jvm.FP.Core.b32 (FP.i2f (zI (a : Int))).toNat)) = true := by decide +kernel
theorem i2f_fin9 {a : Nat} (ha : a ≤ 1600) : isFin (a == 0) (Jvm.FP.Core.decode Jvm.FP.Core.b32 (FP.i2f (zI (a : Int))).toNat) = true :=
  List.all_eq_true.mp i2f_fins a (List.mem_range.mpr (by omega))
theorem fdiv_ok {a b : Nat} (ha : a ≤ 1600) (hb : b ≠ 0 ∧ b ≤ 1600) : (FP.fdiv (FP.i2f (zI ((a : Nat) : Int))) (FP.i2f (zI ((b : Nat) : Int)))).toNat % 2 ^ 31 ≤ 2139095040 := by
  have h1 := i2f_fin9 ha
  have h2 := i2f_fin9 hb.2
  rw [show (b == 0) = false from by simp [hb.1]] at h2
  show (UInt32.ofNat (Jvm.FP.Core.div Jvm.FP.Core.b32 _ _)).toNat % 2 ^ 31 ≤ _
  unfold Jvm.FP.Core.div
  cases e1 : Jvm.FP.Core.decode Jvm.FP.Core.b32 (FP.i2f (zI (a : Int))).toNat with
  | nan => rw [e1] at h1; cases h1
  | inf s => rw [e1] at h1; cases h1
  | fin s c q =>
    cases e2 : Jvm.FP.Core.decode Jvm.FP.Core.b32 (FP.i2f (zI (b : Int))).toNat with
    | nan => rw [e2] at h2; cases h2
    | inf s => rw [e2] at h2; cases h2
    | fin t d r =>
      rw [e2] at h2
      have hd : d ≠ 0 := by simpa [isFin] using h2
      have hq : Jvm.FP.Core.quotient Jvm.FP.Core.b32 (.fin s c q) (.fin t d r) = Jvm.FP.Core.roundRatio Jvm.FP.Core.b32 (s != t) c d (q - r) := by
        unfold Jvm.FP.Core.quotient; dsimp only; rw [if_neg hd]
      rw [hq]
      have := enc32_ok (ratio_ok Jvm.FP.Core.b32 (Or.inl rfl) (s != t) c d (q - r))
      rw [UInt32.toNat_ofNat']
      omega
theorem n32_of {r : UInt32} (h : r.toNat % 2 ^ 31 ≤ 2139095040) : vf_n32 r := by
  unfold vf_n32
  rw [UInt32.le_iff_toNat_le, UInt32.toNat_and, show (0x7fffffff : UInt32).toNat = 2 ^ 31 - 1 from rfl, Nat.and_two_pow_sub_one_eq_mod, show (0x7f800000 : UInt32).toNat = 2139095040 from rfl]
  exact h
theorem dec_nn {n : Nat} (h : n % 2 ^ 31 ≤ 2139095040) : Jvm.FP.Core.decode Jvm.FP.Core.b32 n ≠ .nan := by
  have h1 : Jvm.FP.Core.b32.tails = 8388608 := rfl
  have h2 : Jvm.FP.Core.b32.exps = 256 := rfl
  unfold Jvm.FP.Core.decode Jvm.FP.Core.fieldE Jvm.FP.Core.fieldT
  rw [h1, h2]
  split
  · split
    · intro h; cases h
    · omega
  · split <;> (intro h; cases h)
theorem n64_of {r : UInt32} (h : r.toNat % 2 ^ 31 ≤ 2139095040) : vf_n64 (FP.f2d r) := by
  have hn := dec_nn h
  have h0 : Jvm.FP.Core.fIsNaN r = false := by
    show decide _ = false
    exact decide_eq_false hn
  have h1 : FP.f2d r = Jvm.FP.Core.f2d r := by
    show (if Jvm.FP.Core.fIsNaN r then _ else _) = _
    rw [h0]; rfl
  have h2 : dOk Jvm.FP.Core.b64 (Jvm.FP.Core.round Jvm.FP.Core.b64 (Jvm.FP.Core.decode Jvm.FP.Core.b32 r.toNat)) := by
    cases e : Jvm.FP.Core.decode Jvm.FP.Core.b32 r.toNat with
    | nan => exact absurd e hn
    | inf s => exact trivial
    | fin s c q => exact ratio_ok _ (Or.inr rfl) s c 1 q
  have h3 := enc64_ok h2
  unfold vf_n64
  rw [h1, UInt64.le_iff_toNat_le, UInt64.toNat_and, show (0x7fffffffffffffff : UInt64).toNat = 2 ^ 63 - 1 from rfl, Nat.and_two_pow_sub_one_eq_mod, show (0x7ff0000000000000 : UInt64).toNat = 9218868437227405312 from rfl]
  show (UInt64.ofNat (Jvm.FP.Core.convert Jvm.FP.Core.b32 Jvm.FP.Core.b64 r.toNat)).toNat % 2 ^ 63 ≤ _
  rw [UInt64.toNat_ofNat']
  unfold Jvm.FP.Core.convert
  omega
theorem fd_n {a b : Nat} (ha : a ≤ 1600) (hb : b ≠ 0 ∧ b ≤ 1600) : vf_n32 (FP.fdiv (FP.i2f (zI ((a : Nat) : Int))) (FP.i2f (zI ((b : Nat) : Int)))) := n32_of (fdiv_ok ha hb)
theorem rate_n64 {a b : Nat} (ha : a ≤ 1600) (hb : b ≤ 1600) : vf_n64 (FP.f2d (rateV a b)) := by
  refine n64_of ?_
  unfold rateV
  split
  · decide
  · exact fdiv_ok ha ⟨by assumption, hb⟩
theorem rate_0 {a b : Nat} (h : ((b : Nat) : Int) = 0) : FP.fconst0 = rateV a b := by unfold rateV; rw [if_pos (by omega)]
theorem rate_1 {a b : Nat} (h : ¬ ((b : Nat) : Int) = 0) : FP.fdiv (FP.i2f (zI (a : Int))) (FP.i2f (zI (b : Int))) = rateV a b := by unfold rateV; rw [if_neg (by omega)]
set_option maxHeartbeats 4000000 in
/-- open -/
theorem m_open_t (l : Launch) (hst : l.stackTraces = false) (D : va_G) (dA : Nat → ClassId) (h0 aco ali acu a1 a2 apd asc fo wn bn : Nat) (hwb : wn ≤ 1000 ∧ bn ≤ 1000) (kf : Nat → Option Nat) (ca : Nat → Nat) (hkf : ∀ c, c < 6 → kf c = some (ca c)) (cf : Nat → Option Nat) (x : Int) (j cc cn : Nat) (hx : x = j ∧ j < 2) (hx9 : cf j = some cc) (lf : Nat → Option Nat) (z : Int) (k9 ap : Nat) (hz : z = k9 ∧ k9 < 4) (hl9 : lf k9 = some ap) (na ra rb : Nat) (lq : Option Nat) (tp ta : Int32) (xs : List Nat) (hv : Valid xs) (g fr : Nat → Int32) (bs : List Bool) (hf : RowIs bs fr) (h4 : bs.length ≤ 400) (c k : Nat) (hc : c < 6) (hk : k ≤ 7) (hde : dec c k bs xs.length = some xs) : px_I l yX1_open (ws_ yX1_open cX1_open 3 (some .int)) (pc_rm 13 2 12) D dA [.ref h0, .int (zI (x)), .int (zI (z))] [(h0, .inr (9, [.ref aco, .ref ali, .ref acu, .ref a1, .ref a2, .ref apd, .ref asc, .ref fo, .int (zI (((wn : Nat) : Int))), .int (zI (((bn : Nat) : Int)))])), (ali, .inl (dA 6, 4, .inr (.inr (.inr (.inr lf))))), (acu, .inl (dA 7, 2, .inr (.inr (.inr (.inr cf))))), (aco, .inl (dA 5, 6, .inr (.inr (.inr (.inr kf))))), ((ca 0), .inr (1, [])), ((ca 1), .inr (2, [])), ((ca 2), .inr (3, [])), ((ca 3), .inr (4, [])), ((ca 4), .inr (5, [])), ((ca 5), .inr (6, [])), (cc, .inr (8, [va_rf lq, .ref cn, .int (tp)])), (cn, .inl (dA 1, 24, .inl g)), (ap, .inr (7, [.ref na, .ref ra, .int (zI (((xs.length : Nat) : Int))), .int (zI (((c : Nat) : Int))), .int (zI (((k : Nat) : Int)))])), (ra, .inr (0, [.ref rb, .int (zI (((bs.length : Nat) : Int))), .int (ta)])), (rb, .inl (dA 0, 400, .inl fr))] (fun r (u : (Nat → Int32) × Int32) => r = zI (hereI xs 0) ∧ ArrIs xs u.1) (fun u : (Nat → Int32) × Int32 => [(h0, .inr (9, [.ref aco, .ref ali, .ref acu, .ref a1, .ref a2, .ref apd, .ref asc, .ref fo, .int (zI (((wn : Nat) : Int))), .int (zI (((bn : Nat) : Int)))])), (ali, .inl (dA 6, 4, .inr (.inr (.inr (.inr lf))))), (acu, .inl (dA 7, 2, .inr (.inr (.inr (.inr cf))))), (aco, .inl (dA 5, 6, .inr (.inr (.inr (.inr kf))))), ((ca 0), .inr (1, [])), ((ca 1), .inr (2, [])), ((ca 2), .inr (3, [])), ((ca 3), .inr (4, [])), ((ca 4), .inr (5, [])), ((ca 5), .inr (6, [])), (cc, .inr (8, [.ref ap, .ref cn, .int (zI 0)])), (cn, .inl (dA 1, 24, .inl u.1)), (ap, .inr (7, [.ref na, .ref ra, .int (zI (((xs.length : Nat) : Int))), .int (zI (((c : Nat) : Int))), .int (zI (((k : Nat) : Int)))])), (ra, .inr (0, [.ref rb, .int (zI (((bs.length : Nat) : Int))), .int (u.2)])), (rb, .inl (dA 0, 400, .inl fr))]) (fun E (_ : Unit) => False) (fun _ => []) := by
  refine sx_i hst (by decide) RX1 rfl (Nat.le_of_ble_eq_true rfl) ?_
  intro pg ev s mt args below meth cd R A Q hR X exit hout hthr H locs hw ls hl
  subst hR
  have hl : lv_has ls 3 [(0, .ref h0), (1, .int (zI (x))), (2, .int (zI (z)))] := hl
  refine lv_iload_n X.x X.b dX1_open_0 rfl (lv_at hl 1 rfl) ?_
  refine z_iconst X dX1_open_1 ?_
  refine cv_v (c1 := 0) (s1 := 0) X hw [] [0, 1, 2, 3, 4, 5, 6, 7, 8, 9, 10, 11, 12, 13, 14] (wr := [(h0, .inr (9, [.ref aco, .ref ali, .ref acu, .ref a1, .ref a2, .ref apd, .ref asc, .ref fo, .int (zI (((wn : Nat) : Int))), .int (zI (((bn : Nat) : Int)))])), (ali, .inl (dA 6, 4, .inr (.inr (.inr (.inr lf))))), (acu, .inl (dA 7, 2, .inr (.inr (.inr (.inr cf))))), (aco, .inl (dA 5, 6, .inr (.inr (.inr (.inr kf))))), ((ca 0), .inr (1, [])), ((ca 1), .inr (2, [])), ((ca 2), .inr (3, [])), ((ca 3), .inr (4, [])), ((ca 4), .inr (5, [])), ((ca 5), .inr (6, [])), (cc, .inr (8, [va_rf lq, .ref cn, .int (tp)])), (cn, .inl (dA 1, 24, .inl g)), (ap, .inr (7, [.ref na, .ref ra, .int (zI (((xs.length : Nat) : Int))), .int (zI (((c : Nat) : Int))), .int (zI (((k : Nat) : Int)))])), (ra, .inr (0, [.ref rb, .int (zI (((bs.length : Nat) : Int))), .int (ta)])), (rb, .inl (dA 0, 400, .inl fr))]) (va_runS (As := [.int (zI (x)), .int (zI 2)]) (rest := []) X.fix (m_exists_t l hst D dA x 2 (by omega) (by omega) _) (va_cwS 2 X.t (lw_S q239 q240 q37 q241) rfl rfl rfl (by decide +kernel) (pc_rmle (by decide) (by decide))) (pc_preS X hw [] rfl rfl) rfl rfl hl.1 rfl (lv_room (Nat.le_of_ble_eq_true rfl)) dX1_open_2 ⟨Nat.le_of_ble_eq_true rfl, Nat.le_of_ble_eq_true rfl⟩) rfl rfl rfl rfl (fun _ _ => pc_c00) (fun u_2 H locs hq hw => ?_)
  have hw : pc_S D A s.heap [(h0, .inr (9, [.ref aco, .ref ali, .ref acu, .ref a1, .ref a2, .ref apd, .ref asc, .ref fo, .int (zI (((wn : Nat) : Int))), .int (zI (((bn : Nat) : Int)))])), (ali, .inl (dA 6, 4, .inr (.inr (.inr (.inr lf))))), (acu, .inl (dA 7, 2, .inr (.inr (.inr (.inr cf))))), (aco, .inl (dA 5, 6, .inr (.inr (.inr (.inr kf))))), ((ca 0), .inr (1, [])), ((ca 1), .inr (2, [])), ((ca 2), .inr (3, [])), ((ca 3), .inr (4, [])), ((ca 4), .inr (5, [])), ((ca 5), .inr (6, [])), (cc, .inr (8, [va_rf lq, .ref cn, .int (tp)])), (cn, .inl (dA 1, 24, .inl g)), (ap, .inr (7, [.ref na, .ref ra, .int (zI (((xs.length : Nat) : Int))), .int (zI (((c : Nat) : Int))), .int (zI (((k : Nat) : Int)))])), (ra, .inr (0, [.ref rb, .int (zI (((bs.length : Nat) : Int))), .int (ta)])), (rb, .inl (dA 0, 400, .inl fr))] H locs := hw
  refine lv_aload_n X.x X.b dX1_open_5 rfl (lv_at hl 0 rfl) ?_
  refine lv_aload_n X.x X.b dX1_open_6 rfl (lv_at hl 0 rfl) ?_
  refine z_get X hw in_X1 0 rfl rfl 2 (by decide) q184 rfl rfl dX1_open_7 ?_
  refine lv_iload_n X.x X.b dX1_open_10 rfl (lv_at hl 1 rfl) ?_
  refine z_aald X hw 2 7 j rfl rfl (by decide) (by omega) (v := .ref cc) (congrArg va_rf hx9) dX1_open_11 ?_
  refine lv_aload_n X.x X.b dX1_open_12 rfl (lv_at hl 0 rfl) ?_
  refine lv_iload_n X.x X.b dX1_open_13 rfl (lv_at hl 2 rfl) ?_
  refine cv_q (c1 := 0) (s1 := 0) X hw [0, 1, 12] [2, 3, 4, 5, 6, 7, 8, 9, 10, 11, 13, 14] (wr := [(acu, .inl (dA 7, 2, .inr (.inr (.inr (.inr cf))))), (aco, .inl (dA 5, 6, .inr (.inr (.inr (.inr kf))))), ((ca 0), .inr (1, [])), ((ca 1), .inr (2, [])), ((ca 2), .inr (3, [])), ((ca 3), .inr (4, [])), ((ca 4), .inr (5, [])), ((ca 5), .inr (6, [])), (cc, .inr (8, [va_rf lq, .ref cn, .int (tp)])), (cn, .inl (dA 1, 24, .inl g)), (ra, .inr (0, [.ref rb, .int (zI (((bs.length : Nat) : Int))), .int (ta)])), (rb, .inl (dA 0, 400, .inl fr))]) (va_runV (As := [.int (zI (z))]) (rest := [.ref cc, .ref h0]) X.fix (m_slist_t l hst D dA h0 aco ali acu a1 a2 apd asc fo wn bn hwb lf z k9 ap na ra (zI ((xs.length : Nat) : Int)) (zI ((k : Nat) : Int)) ((c : Nat) : Int) hz hl9 (by omega) _) (cwV 1 X.t (lw_V q470 q472 qs5 q37 q473) rfl rfl rfl (by decide +kernel) (pc_rmle (by decide) (by decide))) (pc_preV X hw [0, 1, 12] rfl rfl 9 0 rfl rfl rfl) rfl rfl hl.1 rfl (lv_room (Nat.le_of_ble_eq_true rfl)) dX1_open_14 ⟨Nat.le_of_ble_eq_true rfl, Nat.le_of_ble_eq_true rfl⟩) rfl rfl rfl rfl (fun _ _ _ => pc_c00) (fun r_3 u_4 H locs hq hw => ?_)
  have hw : pc_S D A s.heap [(acu, .inl (dA 7, 2, .inr (.inr (.inr (.inr cf))))), (aco, .inl (dA 5, 6, .inr (.inr (.inr (.inr kf))))), ((ca 0), .inr (1, [])), ((ca 1), .inr (2, [])), ((ca 2), .inr (3, [])), ((ca 3), .inr (4, [])), ((ca 4), .inr (5, [])), ((ca 5), .inr (6, [])), (cc, .inr (8, [va_rf lq, .ref cn, .int (tp)])), (cn, .inl (dA 1, 24, .inl g)), (ra, .inr (0, [.ref rb, .int (zI (((bs.length : Nat) : Int))), .int (ta)])), (rb, .inl (dA 0, 400, .inl fr)), (h0, .inr (9, [.ref aco, .ref ali, .ref acu, .ref a1, .ref a2, .ref apd, .ref asc, .ref fo, .int (zI (((wn : Nat) : Int))), .int (zI (((bn : Nat) : Int)))])), (ali, .inl (dA 6, 4, .inr (.inr (.inr (.inr lf))))), (ap, .inr (7, [.ref na, .ref ra, .int (zI (((xs.length : Nat) : Int))), .int (zI (((c : Nat) : Int))), .int (zI (((k : Nat) : Int)))]))] H locs := hw
  subst hq
  refine cv_v (c1 := 0) (s1 := 0) X hw [12, 1, 2, 3, 4, 5, 6, 7, 8, 9, 14, 10, 11] [0, 13] (wr := [(acu, .inl (dA 7, 2, .inr (.inr (.inr (.inr cf))))), (ali, .inl (dA 6, 4, .inr (.inr (.inr (.inr lf)))))]) (va_runV (As := [.ref cc, .ref ap]) (rest := []) X.fix (m_begin l hst D dA h0 aco ali acu a1 a2 apd asc fo wn bn hwb kf ca hkf cc cn ap na ra rb lq (tp) (ta) xs hv g fr bs hf h4 k hk c hc hde _) (cwV 2 X.t (lw_V q606 q608 qs8 q37 q609) rfl rfl rfl (by decide +kernel) (pc_rmle (by decide) (by decide))) (pc_preV X hw [12, 1, 2, 3, 4, 5, 6, 7, 8, 9, 14, 10, 11] rfl rfl 9 12 rfl rfl rfl) rfl rfl hl.1 rfl (lv_room (Nat.le_of_ble_eq_true rfl)) dX1_open_17 ⟨Nat.le_of_ble_eq_true rfl, Nat.le_of_ble_eq_true rfl⟩) rfl rfl rfl rfl (fun _ _ => pc_c00) (fun u_6 H locs hq hw => ?_)
  obtain ⟨fb9, ab9⟩ := u_6
  have hw : pc_S D A s.heap [(acu, .inl (dA 7, 2, .inr (.inr (.inr (.inr cf))))), (ali, .inl (dA 6, 4, .inr (.inr (.inr (.inr lf))))), (h0, .inr (9, [.ref aco, .ref ali, .ref acu, .ref a1, .ref a2, .ref apd, .ref asc, .ref fo, .int (zI (((wn : Nat) : Int))), .int (zI (((bn : Nat) : Int)))])), (aco, .inl (dA 5, 6, .inr (.inr (.inr (.inr kf))))), ((ca 0), .inr (1, [])), ((ca 1), .inr (2, [])), ((ca 2), .inr (3, [])), ((ca 3), .inr (4, [])), ((ca 4), .inr (5, [])), ((ca 5), .inr (6, [])), (cc, .inr (8, [.ref ap, .ref cn, .int (zI 0)])), (cn, .inl (dA 1, 24, .inl fb9)), (ap, .inr (7, [.ref na, .ref ra, .int (zI (((xs.length : Nat) : Int))), .int (zI (((c : Nat) : Int))), .int (zI (((k : Nat) : Int)))])), (ra, .inr (0, [.ref rb, .int (zI (((bs.length : Nat) : Int))), .int (ab9)])), (rb, .inl (dA 0, 400, .inl fr))] H locs := hw
  dsimp only at hq
  have hfb9 := hq
  refine lv_aload_n X.x X.b dX1_open_20 rfl (lv_at hl 0 rfl) ?_
  refine z_get X hw in_X1 2 rfl rfl 2 (by decide) q184 rfl rfl dX1_open_21 ?_
  refine lv_iload_n X.x X.b dX1_open_24 rfl (lv_at hl 1 rfl) ?_
  refine z_aald X hw 0 7 j rfl rfl (by decide) (by omega) (v := .ref cc) (congrArg va_rf hx9) dX1_open_25 ?_
  refine cv_i (c1 := 0) (s1 := 0) X hw [10, 11, 12] [0, 1, 2, 3, 4, 5, 6, 7, 8, 9, 13, 14] (wr := [(acu, .inl (dA 7, 2, .inr (.inr (.inr (.inr cf))))), (ali, .inl (dA 6, 4, .inr (.inr (.inr (.inr lf))))), (h0, .inr (9, [.ref aco, .ref ali, .ref acu, .ref a1, .ref a2, .ref apd, .ref asc, .ref fo, .int (zI (((wn : Nat) : Int))), .int (zI (((bn : Nat) : Int)))])), (aco, .inl (dA 5, 6, .inr (.inr (.inr (.inr kf))))), ((ca 0), .inr (1, [])), ((ca 1), .inr (2, [])), ((ca 2), .inr (3, [])), ((ca 3), .inr (4, [])), ((ca 4), .inr (5, [])), ((ca 5), .inr (6, [])), (ra, .inr (0, [.ref rb, .int (zI (((bs.length : Nat) : Int))), .int (ab9)])), (rb, .inl (dA 0, 400, .inl fr))]) (va_runV (As := []) (rest := []) X.fix (m_here l hst D dA cc cn ap na ra xs fb9 hv hfb9 (zI ((c : Nat) : Int)) (zI ((k : Nat) : Int)) 0 (Nat.zero_le _) _) (cwV 0 X.t (lw_V q610 q611 q612 q45 q613) rfl rfl rfl (by decide +kernel) (pc_rmle (by decide) (by decide))) (pc_preV X hw [10, 11, 12] rfl rfl 8 10 rfl rfl rfl) rfl rfl hl.1 rfl (lv_room (Nat.le_of_ble_eq_true rfl)) dX1_open_26 ⟨Nat.le_of_ble_eq_true rfl, Nat.le_of_ble_eq_true rfl⟩) rfl rfl rfl rfl (fun _ _ _ => pc_c00) (fun r_7 u_8 H locs hq hw => ?_)
  have hw : pc_S D A s.heap [(acu, .inl (dA 7, 2, .inr (.inr (.inr (.inr cf))))), (ali, .inl (dA 6, 4, .inr (.inr (.inr (.inr lf))))), (h0, .inr (9, [.ref aco, .ref ali, .ref acu, .ref a1, .ref a2, .ref apd, .ref asc, .ref fo, .int (zI (((wn : Nat) : Int))), .int (zI (((bn : Nat) : Int)))])), (aco, .inl (dA 5, 6, .inr (.inr (.inr (.inr kf))))), ((ca 0), .inr (1, [])), ((ca 1), .inr (2, [])), ((ca 2), .inr (3, [])), ((ca 3), .inr (4, [])), ((ca 4), .inr (5, [])), ((ca 5), .inr (6, [])), (ra, .inr (0, [.ref rb, .int (zI (((bs.length : Nat) : Int))), .int (ab9)])), (rb, .inl (dA 0, 400, .inl fr)), (cc, .inr (8, [.ref ap, .ref cn, .int (zI 0)])), (cn, .inl (dA 1, 24, .inl fb9)), (ap, .inr (7, [.ref na, .ref ra, .int (zI (((xs.length : Nat) : Int))), .int (zI (((c : Nat) : Int))), .int (zI (((k : Nat) : Int)))]))] H locs := hw
  subst hq
  have hw : pc_S D A s.heap [(h0, .inr (9, [.ref aco, .ref ali, .ref acu, .ref a1, .ref a2, .ref apd, .ref asc, .ref fo, .int (zI (((wn : Nat) : Int))), .int (zI (((bn : Nat) : Int)))])), (ali, .inl (dA 6, 4, .inr (.inr (.inr (.inr lf))))), (acu, .inl (dA 7, 2, .inr (.inr (.inr (.inr cf))))), (aco, .inl (dA 5, 6, .inr (.inr (.inr (.inr kf))))), ((ca 0), .inr (1, [])), ((ca 1), .inr (2, [])), ((ca 2), .inr (3, [])), ((ca 3), .inr (4, [])), ((ca 4), .inr (5, [])), ((ca 5), .inr (6, [])), (cc, .inr (8, [.ref ap, .ref cn, .int (zI 0)])), (cn, .inl (dA 1, 24, .inl fb9)), (ap, .inr (7, [.ref na, .ref ra, .int (zI (((xs.length : Nat) : Int))), .int (zI (((c : Nat) : Int))), .int (zI (((k : Nat) : Int)))])), (ra, .inr (0, [.ref rb, .int (zI (((bs.length : Nat) : Int))), .int (ab9)])), (rb, .inl (dA 0, 400, .inl fr))] H locs := hw.sub [2, 1, 0, 3, 4, 5, 6, 7, 8, 9, 12, 13, 14, 10, 11] rfl rfl
  exact exit (fb9, ab9) dX1_open_29 rfl ⟨rfl, hfb9⟩ hw (Nat.le_of_ble_eq_true rfl) (Nat.le_of_ble_eq_true rfl)
set_option maxHeartbeats 4000000 in
/-- open: not -/
theorem m_open_o (l : Launch) (hst : l.stackTraces = false) (D : va_G) (dA : Nat → ClassId) (h0 aco ali acu a1 a2 apd asc fo wn bn : Nat) (hwb : wn ≤ 1000 ∧ bn ≤ 1000) (cf : Nat → Option Nat) (x : Int) (j cc : Nat) (hx : x = j ∧ j < 2) (hx9 : cf j = some cc) (lf : Nat → Option Nat) (z : Int) (k9 ap : Nat) (hz : z = k9 ∧ k9 < 4) (hl9 : lf k9 = some ap) (na ra : Nat) (tm kd : Int32) (cz : Int) (hcd : cz = -1) : px_I l yX1_open (ws_ yX1_open cX1_open 3 (some .int)) (pc_rm 13 2 12) D dA [.ref h0, .int (zI (x)), .int (zI (z))] [(h0, .inr (9, [.ref aco, .ref ali, .ref acu, .ref a1, .ref a2, .ref apd, .ref asc, .ref fo, .int (zI (((wn : Nat) : Int))), .int (zI (((bn : Nat) : Int)))])), (ali, .inl (dA 6, 4, .inr (.inr (.inr (.inr lf))))), (acu, .inl (dA 7, 2, .inr (.inr (.inr (.inr cf))))), (ap, .inr (7, [.ref na, .ref ra, .int (tm), .int (zI (cz)), .int (kd)]))] (fun _ (_ : Unit) => False) (fun _ => [(h0, .inr (9, [.ref aco, .ref ali, .ref acu, .ref a1, .ref a2, .ref apd, .ref asc, .ref fo, .int (zI (((wn : Nat) : Int))), .int (zI (((bn : Nat) : Int)))])), (ali, .inl (dA 6, 4, .inr (.inr (.inr (.inr lf))))), (acu, .inl (dA 7, 2, .inr (.inr (.inr (.inr cf))))), (ap, .inr (7, [.ref na, .ref ra, .int (tm), .int (zI (cz)), .int (kd)]))]) (fun E (_ : Unit) => E = xISE) (fun _ => [(h0, .inr (9, [.ref aco, .ref ali, .ref acu, .ref a1, .ref a2, .ref apd, .ref asc, .ref fo, .int (zI (((wn : Nat) : Int))), .int (zI (((bn : Nat) : Int)))])), (ali, .inl (dA 6, 4, .inr (.inr (.inr (.inr lf))))), (acu, .inl (dA 7, 2, .inr (.inr (.inr (.inr cf))))), (ap, .inr (7, [.ref na, .ref ra, .int (tm), .int (zI (cz)), .int (kd)]))]) := by
  refine sx_i hst (by decide) RX1 rfl (Nat.le_of_ble_eq_true rfl) ?_
  intro pg ev s mt args below meth cd R A Q hR X exit hout hthr H locs hw ls hl
  subst hR
  have hl : lv_has ls 3 [(0, .ref h0), (1, .int (zI (x))), (2, .int (zI (z)))] := hl
  refine lv_iload_n X.x X.b dX1_open_0 rfl (lv_at hl 1 rfl) ?_
  refine z_iconst X dX1_open_1 ?_
  refine cv_v (c1 := 0) (s1 := 0) X hw [] [0, 1, 2, 3] (wr := [(h0, .inr (9, [.ref aco, .ref ali, .ref acu, .ref a1, .ref a2, .ref apd, .ref asc, .ref fo, .int (zI (((wn : Nat) : Int))), .int (zI (((bn : Nat) : Int)))])), (ali, .inl (dA 6, 4, .inr (.inr (.inr (.inr lf))))), (acu, .inl (dA 7, 2, .inr (.inr (.inr (.inr cf))))), (ap, .inr (7, [.ref na, .ref ra, .int (tm), .int (zI (cz)), .int (kd)]))]) (va_runS (As := [.int (zI (x)), .int (zI 2)]) (rest := []) X.fix (m_exists_t l hst D dA x 2 (by omega) (by omega) _) (va_cwS 2 X.t (lw_S q239 q240 q37 q241) rfl rfl rfl (by decide +kernel) (pc_rmle (by decide) (by decide))) (pc_preS X hw [] rfl rfl) rfl rfl hl.1 rfl (lv_room (Nat.le_of_ble_eq_true rfl)) dX1_open_2 ⟨Nat.le_of_ble_eq_true rfl, Nat.le_of_ble_eq_true rfl⟩) rfl rfl rfl rfl (fun _ _ => pc_c00) (fun u_2 H locs hq hw => ?_)
  have hw : pc_S D A s.heap [(h0, .inr (9, [.ref aco, .ref ali, .ref acu, .ref a1, .ref a2, .ref apd, .ref asc, .ref fo, .int (zI (((wn : Nat) : Int))), .int (zI (((bn : Nat) : Int)))])), (ali, .inl (dA 6, 4, .inr (.inr (.inr (.inr lf))))), (acu, .inl (dA 7, 2, .inr (.inr (.inr (.inr cf))))), (ap, .inr (7, [.ref na, .ref ra, .int (tm), .int (zI (cz)), .int (kd)]))] H locs := hw
  refine lv_aload_n X.x X.b dX1_open_5 rfl (lv_at hl 0 rfl) ?_
  refine lv_aload_n X.x X.b dX1_open_6 rfl (lv_at hl 0 rfl) ?_
  refine z_get X hw in_X1 0 rfl rfl 2 (by decide) q184 rfl rfl dX1_open_7 ?_
  refine lv_iload_n X.x X.b dX1_open_10 rfl (lv_at hl 1 rfl) ?_
  refine z_aald X hw 2 7 j rfl rfl (by decide) (by omega) (v := .ref cc) (congrArg va_rf hx9) dX1_open_11 ?_
  refine lv_aload_n X.x X.b dX1_open_12 rfl (lv_at hl 0 rfl) ?_
  refine lv_iload_n X.x X.b dX1_open_13 rfl (lv_at hl 2 rfl) ?_
  refine cx_q (c1 := 0) (s1 := 0) X hw [0, 1, 3] [2] (wr := [(acu, .inl (dA 7, 2, .inr (.inr (.inr (.inr cf)))))]) (vx_runV (As := [.int (zI (z))]) (rest := [.ref cc, .ref h0]) X.fix (m_slist_o l hst D dA h0 aco ali acu a1 a2 apd asc fo wn bn hwb lf z k9 ap na ra (tm) (kd) cz hz hl9 (by omega) _) (cwV 1 X.t (lw_V q470 q472 qs5 q37 q473) rfl rfl rfl (by decide +kernel) (pc_rmle (by decide) (by decide))) (pc_preV X hw [0, 1, 3] rfl rfl 9 0 rfl rfl rfl) rfl rfl hl.1 rfl (lv_room (Nat.le_of_ble_eq_true rfl)) dX1_open_14 ⟨Nat.le_of_ble_eq_true rfl, Nat.le_of_ble_eq_true rfl⟩) rfl rfl rfl rfl (fun E ce q9 ux_5 H locs hq hw h1 h2 h3 => ?_) (fun r u hq => hq.elim) (fun r_3 u_4 H locs hq hw => ?_)
  · skip
    have hw : pc_S D A s.heap [(acu, .inl (dA 7, 2, .inr (.inr (.inr (.inr cf))))), (h0, .inr (9, [.ref aco, .ref ali, .ref acu, .ref a1, .ref a2, .ref apd, .ref asc, .ref fo, .int (zI (((wn : Nat) : Int))), .int (zI (((bn : Nat) : Int)))])), (ali, .inl (dA 6, 4, .inr (.inr (.inr (.inr lf))))), (ap, .inr (7, [.ref na, .ref ra, .int (tm), .int (zI (cz)), .int (kd)]))] H locs := hw
    have hw : pc_S D A s.heap [(h0, .inr (9, [.ref aco, .ref ali, .ref acu, .ref a1, .ref a2, .ref apd, .ref asc, .ref fo, .int (zI (((wn : Nat) : Int))), .int (zI (((bn : Nat) : Int)))])), (ali, .inl (dA 6, 4, .inr (.inr (.inr (.inr lf))))), (acu, .inl (dA 7, 2, .inr (.inr (.inr (.inr cf))))), (ap, .inr (7, [.ref na, .ref ra, .int (tm), .int (zI (cz)), .int (kd)]))] H locs := hw.sub [1, 2, 0, 3] rfl rfl
    exact hout () h1 h2 h3 hq hw (Nat.le_of_ble_eq_true rfl) (Nat.le_of_ble_eq_true rfl)
  · skip
    have hw : pc_S D A s.heap [(acu, .inl (dA 7, 2, .inr (.inr (.inr (.inr cf))))), (h0, .inr (9, [.ref aco, .ref ali, .ref acu, .ref a1, .ref a2, .ref apd, .ref asc, .ref fo, .int (zI (((wn : Nat) : Int))), .int (zI (((bn : Nat) : Int)))])), (ali, .inl (dA 6, 4, .inr (.inr (.inr (.inr lf))))), (ap, .inr (7, [.ref na, .ref ra, .int (tm), .int (zI (cz)), .int (kd)]))] H locs := hw
    exact hq.elim
set_option maxHeartbeats 4000000 in
/-- open: not -/
theorem m_open_nl (l : Launch) (hst : l.stackTraces = false) (D : va_G) (dA : Nat → ClassId) (h0 aco ali acu a1 a2 apd asc fo wn bn : Nat) (hwb : wn ≤ 1000 ∧ bn ≤ 1000) (cf : Nat → Option Nat) (x : Int) (j cc : Nat) (hx : x = j ∧ j < 2) (hx9 : cf j = some cc) (lf : Nat → Option Nat) (z : Int) (hz : ¬ (0 ≤ z ∧ z < 4)) (hr : -2147483648 ≤ z ∧ z < 2147483648) : px_I l yX1_open (ws_ yX1_open cX1_open 3 (some .int)) (pc_rm 13 2 12) D dA [.ref h0, .int (zI (x)), .int (zI (z))] [(h0, .inr (9, [.ref aco, .ref ali, .ref acu, .ref a1, .ref a2, .ref apd, .ref asc, .ref fo, .int (zI (((wn : Nat) : Int))), .int (zI (((bn : Nat) : Int)))])), (ali, .inl (dA 6, 4, .inr (.inr (.inr (.inr lf))))), (acu, .inl (dA 7, 2, .inr (.inr (.inr (.inr cf)))))] (fun _ (_ : Unit) => False) (fun _ => [(h0, .inr (9, [.ref aco, .ref ali, .ref acu, .ref a1, .ref a2, .ref apd, .ref asc, .ref fo, .int (zI (((wn : Nat) : Int))), .int (zI (((bn : Nat) : Int)))])), (ali, .inl (dA 6, 4, .inr (.inr (.inr (.inr lf))))), (acu, .inl (dA 7, 2, .inr (.inr (.inr (.inr cf)))))]) (fun E (_ : Unit) => E = xNSEE) (fun _ => [(h0, .inr (9, [.ref aco, .ref ali, .ref acu, .ref a1, .ref a2, .ref apd, .ref asc, .ref fo, .int (zI (((wn : Nat) : Int))), .int (zI (((bn : Nat) : Int)))])), (ali, .inl (dA 6, 4, .inr (.inr (.inr (.inr lf))))), (acu, .inl (dA 7, 2, .inr (.inr (.inr (.inr cf)))))]) := by
  refine sx_i hst (by decide) RX1 rfl (Nat.le_of_ble_eq_true rfl) ?_
  intro pg ev s mt args below meth cd R A Q hR X exit hout hthr H locs hw ls hl
  subst hR
  have hl : lv_has ls 3 [(0, .ref h0), (1, .int (zI (x))), (2, .int (zI (z)))] := hl
  refine lv_iload_n X.x X.b dX1_open_0 rfl (lv_at hl 1 rfl) ?_
  refine z_iconst X dX1_open_1 ?_
  refine cv_v (c1 := 0) (s1 := 0) X hw [] [0, 1, 2] (wr := [(h0, .inr (9, [.ref aco, .ref ali, .ref acu, .ref a1, .ref a2, .ref apd, .ref asc, .ref fo, .int (zI (((wn : Nat) : Int))), .int (zI (((bn : Nat) : Int)))])), (ali, .inl (dA 6, 4, .inr (.inr (.inr (.inr lf))))), (acu, .inl (dA 7, 2, .inr (.inr (.inr (.inr cf)))))]) (va_runS (As := [.int (zI (x)), .int (zI 2)]) (rest := []) X.fix (m_exists_t l hst D dA x 2 (by omega) (by omega) _) (va_cwS 2 X.t (lw_S q239 q240 q37 q241) rfl rfl rfl (by decide +kernel) (pc_rmle (by decide) (by decide))) (pc_preS X hw [] rfl rfl) rfl rfl hl.1 rfl (lv_room (Nat.le_of_ble_eq_true rfl)) dX1_open_2 ⟨Nat.le_of_ble_eq_true rfl, Nat.le_of_ble_eq_true rfl⟩) rfl rfl rfl rfl (fun _ _ => pc_c00) (fun u_2 H locs hq hw => ?_)
  have hw : pc_S D A s.heap [(h0, .inr (9, [.ref aco, .ref ali, .ref acu, .ref a1, .ref a2, .ref apd, .ref asc, .ref fo, .int (zI (((wn : Nat) : Int))), .int (zI (((bn : Nat) : Int)))])), (ali, .inl (dA 6, 4, .inr (.inr (.inr (.inr lf))))), (acu, .inl (dA 7, 2, .inr (.inr (.inr (.inr cf)))))] H locs := hw
  refine lv_aload_n X.x X.b dX1_open_5 rfl (lv_at hl 0 rfl) ?_
  refine lv_aload_n X.x X.b dX1_open_6 rfl (lv_at hl 0 rfl) ?_
  refine z_get X hw in_X1 0 rfl rfl 2 (by decide) q184 rfl rfl dX1_open_7 ?_
  refine lv_iload_n X.x X.b dX1_open_10 rfl (lv_at hl 1 rfl) ?_
  refine z_aald X hw 2 7 j rfl rfl (by decide) (by omega) (v := .ref cc) (congrArg va_rf hx9) dX1_open_11 ?_
  refine lv_aload_n X.x X.b dX1_open_12 rfl (lv_at hl 0 rfl) ?_
  refine lv_iload_n X.x X.b dX1_open_13 rfl (lv_at hl 2 rfl) ?_
  refine cx_q (c1 := 0) (s1 := 0) X hw [0, 1] [2] (wr := [(acu, .inl (dA 7, 2, .inr (.inr (.inr (.inr cf)))))]) (vx_runV (As := [.int (zI (z))]) (rest := [.ref cc, .ref h0]) X.fix (m_slist_f l hst D dA h0 aco ali acu a1 a2 apd asc fo wn bn hwb lf z (by omega) (by omega) _) (cwV 1 X.t (lw_V q470 q472 qs5 q37 q473) rfl rfl rfl (by decide +kernel) (pc_rmle (by decide) (by decide))) (pc_preV X hw [0, 1] rfl rfl 9 0 rfl rfl rfl) rfl rfl hl.1 rfl (lv_room (Nat.le_of_ble_eq_true rfl)) dX1_open_14 ⟨Nat.le_of_ble_eq_true rfl, Nat.le_of_ble_eq_true rfl⟩) rfl rfl rfl rfl (fun E ce q9 ux_5 H locs hq hw h1 h2 h3 => ?_) (fun r u hq => hq.elim) (fun r_3 u_4 H locs hq hw => ?_)
  · skip
    have hw : pc_S D A s.heap [(acu, .inl (dA 7, 2, .inr (.inr (.inr (.inr cf))))), (h0, .inr (9, [.ref aco, .ref ali, .ref acu, .ref a1, .ref a2, .ref apd, .ref asc, .ref fo, .int (zI (((wn : Nat) : Int))), .int (zI (((bn : Nat) : Int)))])), (ali, .inl (dA 6, 4, .inr (.inr (.inr (.inr lf)))))] H locs := hw
    have hw : pc_S D A s.heap [(h0, .inr (9, [.ref aco, .ref ali, .ref acu, .ref a1, .ref a2, .ref apd, .ref asc, .ref fo, .int (zI (((wn : Nat) : Int))), .int (zI (((bn : Nat) : Int)))])), (ali, .inl (dA 6, 4, .inr (.inr (.inr (.inr lf))))), (acu, .inl (dA 7, 2, .inr (.inr (.inr (.inr cf)))))] H locs := hw.sub [1, 2, 0] rfl rfl
    exact hout () h1 h2 h3 hq hw (Nat.le_of_ble_eq_true rfl) (Nat.le_of_ble_eq_true rfl)
  · skip
    have hw : pc_S D A s.heap [(acu, .inl (dA 7, 2, .inr (.inr (.inr (.inr cf))))), (h0, .inr (9, [.ref aco, .ref ali, .ref acu, .ref a1, .ref a2, .ref apd, .ref asc, .ref fo, .int (zI (((wn : Nat) : Int))), .int (zI (((bn : Nat) : Int)))])), (ali, .inl (dA 6, 4, .inr (.inr (.inr (.inr lf)))))] H locs := hw
    exact hq.elim
set_option maxHeartbeats 4000000 in
/-- open: not -/
theorem m_open_f (l : Launch) (hst : l.stackTraces = false) (D : va_G) (dA : Nat → ClassId) (h0 aco ali acu a1 a2 apd asc fo wn bn : Nat) (hwb : wn ≤ 1000 ∧ bn ≤ 1000) (x : Int) (zr : Int32) (hx : ¬ (0 ≤ x ∧ x < 2)) (hr : -2147483648 ≤ x ∧ x < 2147483648) : px_I l yX1_open (ws_ yX1_open cX1_open 3 (some .int)) (pc_rm 13 2 12) D dA [.ref h0, .int (zI (x)), .int (zr)] [(h0, .inr (9, [.ref aco, .ref ali, .ref acu, .ref a1, .ref a2, .ref apd, .ref asc, .ref fo, .int (zI (((wn : Nat) : Int))), .int (zI (((bn : Nat) : Int)))]))] (fun _ (_ : Unit) => False) (fun _ => [(h0, .inr (9, [.ref aco, .ref ali, .ref acu, .ref a1, .ref a2, .ref apd, .ref asc, .ref fo, .int (zI (((wn : Nat) : Int))), .int (zI (((bn : Nat) : Int)))]))]) (fun E (_ : Unit) => E = xNSEE) (fun _ => [(h0, .inr (9, [.ref aco, .ref ali, .ref acu, .ref a1, .ref a2, .ref apd, .ref asc, .ref fo, .int (zI (((wn : Nat) : Int))), .int (zI (((bn : Nat) : Int)))]))]) := by
  refine sx_i hst (by decide) RX1 rfl (Nat.le_of_ble_eq_true rfl) ?_
  intro pg ev s mt args below meth cd R A Q hR X exit hout hthr H locs hw ls hl
  subst hR
  have hl : lv_has ls 3 [(0, .ref h0), (1, .int (zI (x))), (2, .int (zr))] := hl
  refine lv_iload_n X.x X.b dX1_open_0 rfl (lv_at hl 1 rfl) ?_
  refine z_iconst X dX1_open_1 ?_
  refine cx_v (c1 := 0) (s1 := 0) X hw [] [0] (wr := [(h0, .inr (9, [.ref aco, .ref ali, .ref acu, .ref a1, .ref a2, .ref apd, .ref asc, .ref fo, .int (zI (((wn : Nat) : Int))), .int (zI (((bn : Nat) : Int)))]))]) (vx_runS (As := [.int (zI (x)), .int (zI 2)]) (rest := []) X.fix (m_exists_f l hst D dA x 2 (by omega) (by omega) (by omega) _) (va_cwS 2 X.t (lw_S q239 q240 q37 q241) rfl rfl rfl (by decide +kernel) (pc_rmle (by decide) (by decide))) (pc_preS X hw [] rfl rfl) rfl rfl hl.1 rfl (lv_room (Nat.le_of_ble_eq_true rfl)) dX1_open_2 ⟨Nat.le_of_ble_eq_true rfl, Nat.le_of_ble_eq_true rfl⟩) rfl rfl rfl rfl (fun E ce q9 ux_3 H locs hq hw h1 h2 h3 => ?_) (fun u hq => hq.elim) (fun u_2 H locs hq hw => ?_)
  · skip
    have hw : pc_S D A s.heap [(h0, .inr (9, [.ref aco, .ref ali, .ref acu, .ref a1, .ref a2, .ref apd, .ref asc, .ref fo, .int (zI (((wn : Nat) : Int))), .int (zI (((bn : Nat) : Int)))]))] H locs := hw
    exact hout () h1 h2 h3 hq hw (Nat.le_of_ble_eq_true rfl) (Nat.le_of_ble_eq_true rfl)
  · skip
    have hw : pc_S D A s.heap [(h0, .inr (9, [.ref aco, .ref ali, .ref acu, .ref a1, .ref a2, .ref apd, .ref asc, .ref fo, .int (zI (((wn : Nat) : Int))), .int (zI (((bn : Nat) : Int)))]))] H locs := hw
    exact hq.elim
set_option maxHeartbeats 4000000 in
/-- about -/
theorem m_about_t (l : Launch) (hst : l.stackTraces = false) (D : va_G) (dA : Nat → ClassId) (h0 aco ali acu a1 a2 apd asc fo wn bn : Nat) (hwb : wn ≤ 1000 ∧ bn ≤ 1000) (lf : Nat → Option Nat) (z : Int) (k9 ap : Nat) (hz : z = k9 ∧ k9 < 4) (hl9 : lf k9 = some ap) (na ra rb bl : Nat) (xs : List Nat) (g : Nat → Int32) (hv : Valid xs) (hg : ArrIs xs g) (cz kz : Int) (ta : Int32) (w : Int) (hrw : -2147483648 ≤ w ∧ w < 2147483648) (e : Nat) (he : e = if ¬ (0 ≤ w ∧ w < 5) then 2 else 0) : px_I l yX1_about (ws_ yX1_about cX1_about 4 (some .int)) (pc_rm 13 2 12) D dA [.ref h0, .int (zI (z)), .int (zI (w))] [(h0, .inr (9, [.ref aco, .ref ali, .ref acu, .ref a1, .ref a2, .ref apd, .ref asc, .ref fo, .int (zI (((wn : Nat) : Int))), .int (zI (((bn : Nat) : Int)))])), (ali, .inl (dA 6, 4, .inr (.inr (.inr (.inr lf))))), (ap, .inr (7, [.ref na, .ref ra, .int (zI (((xs.length : Nat) : Int))), .int (zI (cz)), .int (zI (kz))])), (na, .inl (dA 1, 24, .inl g)), (ra, .inr (0, [.ref rb, .int (zI (((bl : Nat) : Int))), .int (ta)]))] (fun r (_ : Unit) => e = 0 ∧ r = zI (aboutV xs bl cz kz w)) (fun _ => [(h0, .inr (9, [.ref aco, .ref ali, .ref acu, .ref a1, .ref a2, .ref apd, .ref asc, .ref fo, .int (zI (((wn : Nat) : Int))), .int (zI (((bn : Nat) : Int)))])), (ali, .inl (dA 6, 4, .inr (.inr (.inr (.inr lf))))), (ap, .inr (7, [.ref na, .ref ra, .int (zI (((xs.length : Nat) : Int))), .int (zI (cz)), .int (zI (kz))])), (na, .inl (dA 1, 24, .inl g)), (ra, .inr (0, [.ref rb, .int (zI (((bl : Nat) : Int))), .int (ta)]))]) (fun E (_ : Unit) => e ≠ 0 ∧ E = xn e) (fun _ => [(h0, .inr (9, [.ref aco, .ref ali, .ref acu, .ref a1, .ref a2, .ref apd, .ref asc, .ref fo, .int (zI (((wn : Nat) : Int))), .int (zI (((bn : Nat) : Int)))])), (ali, .inl (dA 6, 4, .inr (.inr (.inr (.inr lf))))), (ap, .inr (7, [.ref na, .ref ra, .int (zI (((xs.length : Nat) : Int))), .int (zI (cz)), .int (zI (kz))])), (na, .inl (dA 1, 24, .inl g)), (ra, .inr (0, [.ref rb, .int (zI (((bl : Nat) : Int))), .int (ta)]))]) := by
  refine sx_i hst (by decide) RX1 rfl (Nat.le_of_ble_eq_true rfl) ?_
  intro pg ev s mt args below meth cd R A Q hR X exit hout hthr H locs hw ls hl
  subst hR
  have hl : lv_has ls 4 [(0, .ref h0), (1, .int (zI (z))), (2, .int (zI (w)))] := hl
  have hv1 := hv.1
  rcases (show w = 0 ∨ w = 1 ∨ w = 2 ∨ w = 3 ∨ w = 4 ∨ ¬ (0 ≤ w ∧ w < 5) by omega) with rfl | rfl | rfl | rfl | rfl | hno
  · skip
    have hec : e = 0 := by rw [he]; rfl
    have hv1 := hv.1
    refine lv_aload_n X.x X.b dX1_about_0 rfl (lv_at hl 0 rfl) ?_
    refine lv_iload_n X.x X.b dX1_about_1 rfl (lv_at hl 1 rfl) ?_
    refine cv_q (c1 := 0) (s1 := 0) X hw [0, 1] [2, 3, 4] (wr := [(ap, .inr (7, [.ref na, .ref ra, .int (zI (((xs.length : Nat) : Int))), .int (zI (cz)), .int (zI (kz))])), (na, .inl (dA 1, 24, .inl g)), (ra, .inr (0, [.ref rb, .int (zI (((bl : Nat) : Int))), .int (ta)]))]) (va_runV (As := [.int (zI (z))]) (rest := []) X.fix (m_list_t l hst D dA h0 aco ali acu a1 a2 apd asc fo wn bn hwb lf z k9 ap hz hl9 _) (cwV 1 X.t (lw_V q235 q237 qs1 q37 q238) rfl rfl rfl (by decide +kernel) (pc_rmle (by decide) (by decide))) (pc_preV X hw [0, 1] rfl rfl 9 0 rfl rfl rfl) rfl rfl hl.1 rfl (lv_room (Nat.le_of_ble_eq_true rfl)) dX1_about_2 ⟨Nat.le_of_ble_eq_true rfl, Nat.le_of_ble_eq_true rfl⟩) rfl rfl rfl rfl (fun _ _ _ => pc_c00) (fun r_1 u_2 H locs hq hw => ?_)
    have hw : pc_S D A s.heap [(ap, .inr (7, [.ref na, .ref ra, .int (zI (((xs.length : Nat) : Int))), .int (zI (cz)), .int (zI (kz))])), (na, .inl (dA 1, 24, .inl g)), (ra, .inr (0, [.ref rb, .int (zI (((bl : Nat) : Int))), .int (ta)])), (h0, .inr (9, [.ref aco, .ref ali, .ref acu, .ref a1, .ref a2, .ref apd, .ref asc, .ref fo, .int (zI (((wn : Nat) : Int))), .int (zI (((bn : Nat) : Int)))])), (ali, .inl (dA 6, 4, .inr (.inr (.inr (.inr lf)))))] H locs := hw
    subst hq
    refine lv_astore_n (lv' := [(3, .ref ap), (0, .ref h0), (1, .int (zI (z))), (2, .int (zI 0))]) X.x X.b dX1_about_5 rfl hl (by decide) rfl (fun ls hl => ?_)
    refine lv_iload_n X.x X.b dX1_about_6 rfl (lv_at hl 3 rfl) ?_
    refine lv_tableIn (off := 33) (tgt := 40) X.x X.b dX1_about_7 (by decide) (by decide) rfl (by decide) ?_
    refine lv_aload_n X.x X.b dX1_about_40 rfl (lv_at hl 0 rfl) ?_
    refine z_get X hw in_X11 0 rfl rfl 2 (by decide) q166 rfl rfl dX1_about_41 ?_
    have hw : pc_S D A s.heap [(h0, .inr (9, [.ref aco, .ref ali, .ref acu, .ref a1, .ref a2, .ref apd, .ref asc, .ref fo, .int (zI (((wn : Nat) : Int))), .int (zI (((bn : Nat) : Int)))])), (ali, .inl (dA 6, 4, .inr (.inr (.inr (.inr lf))))), (ap, .inr (7, [.ref na, .ref ra, .int (zI (((xs.length : Nat) : Int))), .int (zI (cz)), .int (zI (kz))])), (na, .inl (dA 1, 24, .inl g)), (ra, .inr (0, [.ref rb, .int (zI (((bl : Nat) : Int))), .int (ta)]))] H locs := hw.sub [3, 4, 0, 1, 2] rfl rfl
    exact exit () dX1_about_44 rfl ⟨hec, rfl⟩ hw (Nat.le_of_ble_eq_true rfl) (Nat.le_of_ble_eq_true rfl)
  · skip
    have hec : e = 0 := by rw [he]; rfl
    have hv1 := hv.1
    refine lv_aload_n X.x X.b dX1_about_0 rfl (lv_at hl 0 rfl) ?_
    refine lv_iload_n X.x X.b dX1_about_1 rfl (lv_at hl 1 rfl) ?_
    refine cv_q (c1 := 0) (s1 := 0) X hw [0, 1] [2, 3, 4] (wr := [(ap, .inr (7, [.ref na, .ref ra, .int (zI (((xs.length : Nat) : Int))), .int (zI (cz)), .int (zI (kz))])), (na, .inl (dA 1, 24, .inl g)), (ra, .inr (0, [.ref rb, .int (zI (((bl : Nat) : Int))), .int (ta)]))]) (va_runV (As := [.int (zI (z))]) (rest := []) X.fix (m_list_t l hst D dA h0 aco ali acu a1 a2 apd asc fo wn bn hwb lf z k9 ap hz hl9 _) (cwV 1 X.t (lw_V q235 q237 qs1 q37 q238) rfl rfl rfl (by decide +kernel) (pc_rmle (by decide) (by decide))) (pc_preV X hw [0, 1] rfl rfl 9 0 rfl rfl rfl) rfl rfl hl.1 rfl (lv_room (Nat.le_of_ble_eq_true rfl)) dX1_about_2 ⟨Nat.le_of_ble_eq_true rfl, Nat.le_of_ble_eq_true rfl⟩) rfl rfl rfl rfl (fun _ _ _ => pc_c00) (fun r_3 u_4 H locs hq hw => ?_)
    have hw : pc_S D A s.heap [(ap, .inr (7, [.ref na, .ref ra, .int (zI (((xs.length : Nat) : Int))), .int (zI (cz)), .int (zI (kz))])), (na, .inl (dA 1, 24, .inl g)), (ra, .inr (0, [.ref rb, .int (zI (((bl : Nat) : Int))), .int (ta)])), (h0, .inr (9, [.ref aco, .ref ali, .ref acu, .ref a1, .ref a2, .ref apd, .ref asc, .ref fo, .int (zI (((wn : Nat) : Int))), .int (zI (((bn : Nat) : Int)))])), (ali, .inl (dA 6, 4, .inr (.inr (.inr (.inr lf)))))] H locs := hw
    subst hq
    refine lv_astore_n (lv' := [(3, .ref ap), (0, .ref h0), (1, .int (zI (z))), (2, .int (zI 1))]) X.x X.b dX1_about_5 rfl hl (by decide) rfl (fun ls hl => ?_)
    refine lv_iload_n X.x X.b dX1_about_6 rfl (lv_at hl 3 rfl) ?_
    refine lv_tableIn (off := 38) (tgt := 45) X.x X.b dX1_about_7 (by decide) (by decide) rfl (by decide) ?_
    refine lv_aload_n X.x X.b dX1_about_45 rfl (lv_at hl 0 rfl) ?_
    refine z_get X hw in_X11 0 rfl rfl 1 (by decide) q163 rfl rfl dX1_about_46 ?_
    refine z_get X hw in_X10 2 rfl rfl 1 (by decide) q142 rfl rfl dX1_about_49 ?_
    have hw : pc_S D A s.heap [(h0, .inr (9, [.ref aco, .ref ali, .ref acu, .ref a1, .ref a2, .ref apd, .ref asc, .ref fo, .int (zI (((wn : Nat) : Int))), .int (zI (((bn : Nat) : Int)))])), (ali, .inl (dA 6, 4, .inr (.inr (.inr (.inr lf))))), (ap, .inr (7, [.ref na, .ref ra, .int (zI (((xs.length : Nat) : Int))), .int (zI (cz)), .int (zI (kz))])), (na, .inl (dA 1, 24, .inl g)), (ra, .inr (0, [.ref rb, .int (zI (((bl : Nat) : Int))), .int (ta)]))] H locs := hw.sub [3, 4, 0, 1, 2] rfl rfl
    exact exit () dX1_about_52 rfl ⟨hec, rfl⟩ hw (Nat.le_of_ble_eq_true rfl) (Nat.le_of_ble_eq_true rfl)
  · skip
    have hec : e = 0 := by rw [he]; rfl
    have hv1 := hv.1
    refine lv_aload_n X.x X.b dX1_about_0 rfl (lv_at hl 0 rfl) ?_
    refine lv_iload_n X.x X.b dX1_about_1 rfl (lv_at hl 1 rfl) ?_
    refine cv_q (c1 := 0) (s1 := 0) X hw [0, 1] [2, 3, 4] (wr := [(ap, .inr (7, [.ref na, .ref ra, .int (zI (((xs.length : Nat) : Int))), .int (zI (cz)), .int (zI (kz))])), (na, .inl (dA 1, 24, .inl g)), (ra, .inr (0, [.ref rb, .int (zI (((bl : Nat) : Int))), .int (ta)]))]) (va_runV (As := [.int (zI (z))]) (rest := []) X.fix (m_list_t l hst D dA h0 aco ali acu a1 a2 apd asc fo wn bn hwb lf z k9 ap hz hl9 _) (cwV 1 X.t (lw_V q235 q237 qs1 q37 q238) rfl rfl rfl (by decide +kernel) (pc_rmle (by decide) (by decide))) (pc_preV X hw [0, 1] rfl rfl 9 0 rfl rfl rfl) rfl rfl hl.1 rfl (lv_room (Nat.le_of_ble_eq_true rfl)) dX1_about_2 ⟨Nat.le_of_ble_eq_true rfl, Nat.le_of_ble_eq_true rfl⟩) rfl rfl rfl rfl (fun _ _ _ => pc_c00) (fun r_5 u_6 H locs hq hw => ?_)
    have hw : pc_S D A s.heap [(ap, .inr (7, [.ref na, .ref ra, .int (zI (((xs.length : Nat) : Int))), .int (zI (cz)), .int (zI (kz))])), (na, .inl (dA 1, 24, .inl g)), (ra, .inr (0, [.ref rb, .int (zI (((bl : Nat) : Int))), .int (ta)])), (h0, .inr (9, [.ref aco, .ref ali, .ref acu, .ref a1, .ref a2, .ref apd, .ref asc, .ref fo, .int (zI (((wn : Nat) : Int))), .int (zI (((bn : Nat) : Int)))])), (ali, .inl (dA 6, 4, .inr (.inr (.inr (.inr lf)))))] H locs := hw
    subst hq
    refine lv_astore_n (lv' := [(3, .ref ap), (0, .ref h0), (1, .int (zI (z))), (2, .int (zI 2))]) X.x X.b dX1_about_5 rfl hl (by decide) rfl (fun ls hl => ?_)
    refine lv_iload_n X.x X.b dX1_about_6 rfl (lv_at hl 3 rfl) ?_
    refine lv_tableIn (off := 46) (tgt := 53) X.x X.b dX1_about_7 (by decide) (by decide) rfl (by decide) ?_
    refine lv_aload_n X.x X.b dX1_about_53 rfl (lv_at hl 0 rfl) ?_
    refine z_get X hw in_X11 0 rfl rfl 3 (by decide) q168 rfl rfl dX1_about_54 ?_
    have hw : pc_S D A s.heap [(h0, .inr (9, [.ref aco, .ref ali, .ref acu, .ref a1, .ref a2, .ref apd, .ref asc, .ref fo, .int (zI (((wn : Nat) : Int))), .int (zI (((bn : Nat) : Int)))])), (ali, .inl (dA 6, 4, .inr (.inr (.inr (.inr lf))))), (ap, .inr (7, [.ref na, .ref ra, .int (zI (((xs.length : Nat) : Int))), .int (zI (cz)), .int (zI (kz))])), (na, .inl (dA 1, 24, .inl g)), (ra, .inr (0, [.ref rb, .int (zI (((bl : Nat) : Int))), .int (ta)]))] H locs := hw.sub [3, 4, 0, 1, 2] rfl rfl
    exact exit () dX1_about_57 rfl ⟨hec, rfl⟩ hw (Nat.le_of_ble_eq_true rfl) (Nat.le_of_ble_eq_true rfl)
  · skip
    have hec : e = 0 := by rw [he]; rfl
    have hv1 := hv.1
    refine lv_aload_n X.x X.b dX1_about_0 rfl (lv_at hl 0 rfl) ?_
    refine lv_iload_n X.x X.b dX1_about_1 rfl (lv_at hl 1 rfl) ?_
    refine cv_q (c1 := 0) (s1 := 0) X hw [0, 1] [2, 3, 4] (wr := [(ap, .inr (7, [.ref na, .ref ra, .int (zI (((xs.length : Nat) : Int))), .int (zI (cz)), .int (zI (kz))])), (na, .inl (dA 1, 24, .inl g)), (ra, .inr (0, [.ref rb, .int (zI (((bl : Nat) : Int))), .int (ta)]))]) (va_runV (As := [.int (zI (z))]) (rest := []) X.fix (m_list_t l hst D dA h0 aco ali acu a1 a2 apd asc fo wn bn hwb lf z k9 ap hz hl9 _) (cwV 1 X.t (lw_V q235 q237 qs1 q37 q238) rfl rfl rfl (by decide +kernel) (pc_rmle (by decide) (by decide))) (pc_preV X hw [0, 1] rfl rfl 9 0 rfl rfl rfl) rfl rfl hl.1 rfl (lv_room (Nat.le_of_ble_eq_true rfl)) dX1_about_2 ⟨Nat.le_of_ble_eq_true rfl, Nat.le_of_ble_eq_true rfl⟩) rfl rfl rfl rfl (fun _ _ _ => pc_c00) (fun r_7 u_8 H locs hq hw => ?_)
    have hw : pc_S D A s.heap [(ap, .inr (7, [.ref na, .ref ra, .int (zI (((xs.length : Nat) : Int))), .int (zI (cz)), .int (zI (kz))])), (na, .inl (dA 1, 24, .inl g)), (ra, .inr (0, [.ref rb, .int (zI (((bl : Nat) : Int))), .int (ta)])), (h0, .inr (9, [.ref aco, .ref ali, .ref acu, .ref a1, .ref a2, .ref apd, .ref asc, .ref fo, .int (zI (((wn : Nat) : Int))), .int (zI (((bn : Nat) : Int)))])), (ali, .inl (dA 6, 4, .inr (.inr (.inr (.inr lf)))))] H locs := hw
    subst hq
    refine lv_astore_n (lv' := [(3, .ref ap), (0, .ref h0), (1, .int (zI (z))), (2, .int (zI 3))]) X.x X.b dX1_about_5 rfl hl (by decide) rfl (fun ls hl => ?_)
    refine lv_iload_n X.x X.b dX1_about_6 rfl (lv_at hl 3 rfl) ?_
    refine lv_tableIn (off := 51) (tgt := 58) X.x X.b dX1_about_7 (by decide) (by decide) rfl (by decide) ?_
    refine lv_aload_n X.x X.b dX1_about_58 rfl (lv_at hl 0 rfl) ?_
    refine z_get X hw in_X11 0 rfl rfl 4 (by decide) q170 rfl rfl dX1_about_59 ?_
    have hw : pc_S D A s.heap [(h0, .inr (9, [.ref aco, .ref ali, .ref acu, .ref a1, .ref a2, .ref apd, .ref asc, .ref fo, .int (zI (((wn : Nat) : Int))), .int (zI (((bn : Nat) : Int)))])), (ali, .inl (dA 6, 4, .inr (.inr (.inr (.inr lf))))), (ap, .inr (7, [.ref na, .ref ra, .int (zI (((xs.length : Nat) : Int))), .int (zI (cz)), .int (zI (kz))])), (na, .inl (dA 1, 24, .inl g)), (ra, .inr (0, [.ref rb, .int (zI (((bl : Nat) : Int))), .int (ta)]))] H locs := hw.sub [3, 4, 0, 1, 2] rfl rfl
    exact exit () dX1_about_62 rfl ⟨hec, rfl⟩ hw (Nat.le_of_ble_eq_true rfl) (Nat.le_of_ble_eq_true rfl)
  · skip
    have hec : e = 0 := by rw [he]; rfl
    have hv1 := hv.1
    refine lv_aload_n X.x X.b dX1_about_0 rfl (lv_at hl 0 rfl) ?_
    refine lv_iload_n X.x X.b dX1_about_1 rfl (lv_at hl 1 rfl) ?_
    refine cv_q (c1 := 0) (s1 := 0) X hw [0, 1] [2, 3, 4] (wr := [(ap, .inr (7, [.ref na, .ref ra, .int (zI (((xs.length : Nat) : Int))), .int (zI (cz)), .int (zI (kz))])), (na, .inl (dA 1, 24, .inl g)), (ra, .inr (0, [.ref rb, .int (zI (((bl : Nat) : Int))), .int (ta)]))]) (va_runV (As := [.int (zI (z))]) (rest := []) X.fix (m_list_t l hst D dA h0 aco ali acu a1 a2 apd asc fo wn bn hwb lf z k9 ap hz hl9 _) (cwV 1 X.t (lw_V q235 q237 qs1 q37 q238) rfl rfl rfl (by decide +kernel) (pc_rmle (by decide) (by decide))) (pc_preV X hw [0, 1] rfl rfl 9 0 rfl rfl rfl) rfl rfl hl.1 rfl (lv_room (Nat.le_of_ble_eq_true rfl)) dX1_about_2 ⟨Nat.le_of_ble_eq_true rfl, Nat.le_of_ble_eq_true rfl⟩) rfl rfl rfl rfl (fun _ _ _ => pc_c00) (fun r_9 u_10 H locs hq hw => ?_)
    have hw : pc_S D A s.heap [(ap, .inr (7, [.ref na, .ref ra, .int (zI (((xs.length : Nat) : Int))), .int (zI (cz)), .int (zI (kz))])), (na, .inl (dA 1, 24, .inl g)), (ra, .inr (0, [.ref rb, .int (zI (((bl : Nat) : Int))), .int (ta)])), (h0, .inr (9, [.ref aco, .ref ali, .ref acu, .ref a1, .ref a2, .ref apd, .ref asc, .ref fo, .int (zI (((wn : Nat) : Int))), .int (zI (((bn : Nat) : Int)))])), (ali, .inl (dA 6, 4, .inr (.inr (.inr (.inr lf)))))] H locs := hw
    subst hq
    refine lv_astore_n (lv' := [(3, .ref ap), (0, .ref h0), (1, .int (zI (z))), (2, .int (zI 4))]) X.x X.b dX1_about_5 rfl hl (by decide) rfl (fun ls hl => ?_)
    refine lv_iload_n X.x X.b dX1_about_6 rfl (lv_at hl 3 rfl) ?_
    refine lv_tableIn (off := 56) (tgt := 63) X.x X.b dX1_about_7 (by decide) (by decide) rfl (by decide) ?_
    refine lv_aload_n X.x X.b dX1_about_63 rfl (lv_at hl 0 rfl) ?_
    refine cv_i (c1 := 0) (s1 := 0) X hw [0, 1] [2, 3, 4] (wr := [(ra, .inr (0, [.ref rb, .int (zI (((bl : Nat) : Int))), .int (ta)])), (h0, .inr (9, [.ref aco, .ref ali, .ref acu, .ref a1, .ref a2, .ref apd, .ref asc, .ref fo, .int (zI (((wn : Nat) : Int))), .int (zI (((bn : Nat) : Int)))])), (ali, .inl (dA 6, 4, .inr (.inr (.inr (.inr lf)))))]) (va_runV (As := []) (rest := []) X.fix (m_last l hst D dA ap na ra xs g hv hg (zI cz) (zI kz) _) (cwV 0 X.t (lw_V q305 q306 q307 q47 q308) rfl rfl rfl (by decide +kernel) (pc_rmle (by decide) (by decide))) (pc_preV X hw [0, 1] rfl rfl 7 0 rfl rfl rfl) rfl rfl hl.1 rfl (lv_room (Nat.le_of_ble_eq_true rfl)) dX1_about_64 ⟨Nat.le_of_ble_eq_true rfl, Nat.le_of_ble_eq_true rfl⟩) rfl rfl rfl rfl (fun _ _ _ => pc_c00) (fun r_11 u_12 H locs hq hw => ?_)
    have hw : pc_S D A s.heap [(ra, .inr (0, [.ref rb, .int (zI (((bl : Nat) : Int))), .int (ta)])), (h0, .inr (9, [.ref aco, .ref ali, .ref acu, .ref a1, .ref a2, .ref apd, .ref asc, .ref fo, .int (zI (((wn : Nat) : Int))), .int (zI (((bn : Nat) : Int)))])), (ali, .inl (dA 6, 4, .inr (.inr (.inr (.inr lf))))), (ap, .inr (7, [.ref na, .ref ra, .int (zI (((xs.length : Nat) : Int))), .int (zI (cz)), .int (zI (kz))])), (na, .inl (dA 1, 24, .inl g))] H locs := hw
    subst hq
    have hw : pc_S D A s.heap [(h0, .inr (9, [.ref aco, .ref ali, .ref acu, .ref a1, .ref a2, .ref apd, .ref asc, .ref fo, .int (zI (((wn : Nat) : Int))), .int (zI (((bn : Nat) : Int)))])), (ali, .inl (dA 6, 4, .inr (.inr (.inr (.inr lf))))), (ap, .inr (7, [.ref na, .ref ra, .int (zI (((xs.length : Nat) : Int))), .int (zI (cz)), .int (zI (kz))])), (na, .inl (dA 1, 24, .inl g)), (ra, .inr (0, [.ref rb, .int (zI (((bl : Nat) : Int))), .int (ta)]))] H locs := hw.sub [1, 2, 3, 4, 0] rfl rfl
    exact exit () dX1_about_67 rfl ⟨hec, rfl⟩ hw (Nat.le_of_ble_eq_true rfl) (Nat.le_of_ble_eq_true rfl)
  · skip
    have hec : e = 2 := by rw [he, if_pos hno]
    have hv1 := hv.1
    refine lv_aload_n X.x X.b dX1_about_0 rfl (lv_at hl 0 rfl) ?_
    refine lv_iload_n X.x X.b dX1_about_1 rfl (lv_at hl 1 rfl) ?_
    refine cv_q (c1 := 0) (s1 := 0) X hw [0, 1] [2, 3, 4] (wr := [(ap, .inr (7, [.ref na, .ref ra, .int (zI (((xs.length : Nat) : Int))), .int (zI (cz)), .int (zI (kz))])), (na, .inl (dA 1, 24, .inl g)), (ra, .inr (0, [.ref rb, .int (zI (((bl : Nat) : Int))), .int (ta)]))]) (va_runV (As := [.int (zI (z))]) (rest := []) X.fix (m_list_t l hst D dA h0 aco ali acu a1 a2 apd asc fo wn bn hwb lf z k9 ap hz hl9 _) (cwV 1 X.t (lw_V q235 q237 qs1 q37 q238) rfl rfl rfl (by decide +kernel) (pc_rmle (by decide) (by decide))) (pc_preV X hw [0, 1] rfl rfl 9 0 rfl rfl rfl) rfl rfl hl.1 rfl (lv_room (Nat.le_of_ble_eq_true rfl)) dX1_about_2 ⟨Nat.le_of_ble_eq_true rfl, Nat.le_of_ble_eq_true rfl⟩) rfl rfl rfl rfl (fun _ _ _ => pc_c00) (fun r_13 u_14 H locs hq hw => ?_)
    have hw : pc_S D A s.heap [(ap, .inr (7, [.ref na, .ref ra, .int (zI (((xs.length : Nat) : Int))), .int (zI (cz)), .int (zI (kz))])), (na, .inl (dA 1, 24, .inl g)), (ra, .inr (0, [.ref rb, .int (zI (((bl : Nat) : Int))), .int (ta)])), (h0, .inr (9, [.ref aco, .ref ali, .ref acu, .ref a1, .ref a2, .ref apd, .ref asc, .ref fo, .int (zI (((wn : Nat) : Int))), .int (zI (((bn : Nat) : Int)))])), (ali, .inl (dA 6, 4, .inr (.inr (.inr (.inr lf)))))] H locs := hw
    subst hq
    refine lv_astore_n (lv' := [(3, .ref ap), (0, .ref h0), (1, .int (zI (z))), (2, .int (zI (w)))]) X.x X.b dX1_about_5 rfl hl (by decide) rfl (fun ls hl => ?_)
    refine lv_iload_n X.x X.b dX1_about_6 rfl (lv_at hl 3 rfl) ?_
    refine lv_tableOut (tgt := 68) X.x X.b dX1_about_7 (by rw [zI_toInt (by omega)]; omega) (by decide) ?_
    have hw : pc_S D A s.heap [(h0, .inr (9, [.ref aco, .ref ali, .ref acu, .ref a1, .ref a2, .ref apd, .ref asc, .ref fo, .int (zI (((wn : Nat) : Int))), .int (zI (((bn : Nat) : Int)))])), (ali, .inl (dA 6, 4, .inr (.inr (.inr (.inr lf))))), (ap, .inr (7, [.ref na, .ref ra, .int (zI (((xs.length : Nat) : Int))), .int (zI (cz)), .int (zI (kz))])), (na, .inl (dA 1, 24, .inl g)), (ra, .inr (0, [.ref rb, .int (zI (((bl : Nat) : Int))), .int (ta)]))] H locs := hw.sub [3, 4, 0, 1, 2] rfl rfl
    exact hthr pc_nm () rfl q312 q53 (pc_at0 X _ xIAE (by decide) pc_at_xIAE pc_ab_xIAE) hl.1 dX1_about_68 dX1_about_71 dX1_about_72 dX1_about_75 (by decide) (by decide) (by rw [hec]; exact ⟨by decide, rfl⟩) hw (Nat.le_of_ble_eq_true rfl) (Nat.le_of_ble_eq_true rfl)
set_option maxHeartbeats 4000000 in
/-- count -/
theorem m_count_t (l : Launch) (hst : l.stackTraces = false) (D : va_G) (dA : Nat → ClassId) (h0 aco ali acu a1 a2 apd asc fo wn bn : Nat) (hwb : wn ≤ 1000 ∧ bn ≤ 1000) (lf : Nat → Option Nat) (pa na ra rb ml bl : Nat → Nat) (cz : Nat → Int) (kd at9 : Nat → Int32) (hlf : ∀ j, j < 4 → lf j = some (pa j)) (hcd : ∀ j, j < 4 → -1 ≤ cz j ∧ cz j ≤ 5) (hml : ∀ j, j < 4 → ml j ≤ 1000) (hbl : ∀ j, j < 4 → bl j ≤ 1000) (pb9 pl : Nat) (ta : Int32) (w : Int) (hrw : -2147483648 ≤ w ∧ w < 2147483648) (e : Nat) (he : e = if ¬ (0 ≤ w ∧ w < 5) then 2 else 0) : px_I l yX1_count (ws_ yX1_count cX1_count 2 (some .int)) (pc_rm 13 2 12) D dA [.ref h0, .int (zI (w))] [(h0, .inr (9, [.ref aco, .ref ali, .ref acu, .ref a1, .ref a2, .ref apd, .ref asc, .ref fo, .int (zI (((wn : Nat) : Int))), .int (zI (((bn : Nat) : Int)))])), (ali, .inl (dA 6, 4, .inr (.inr (.inr (.inr lf))))), ((pa 0), .inr (7, [.ref (na 0), .ref (ra 0), .int (zI (((ml 0 : Nat) : Int))), .int (zI (cz 0)), .int (kd 0)])), ((pa 1), .inr (7, [.ref (na 1), .ref (ra 1), .int (zI (((ml 1 : Nat) : Int))), .int (zI (cz 1)), .int (kd 1)])), ((pa 2), .inr (7, [.ref (na 2), .ref (ra 2), .int (zI (((ml 2 : Nat) : Int))), .int (zI (cz 2)), .int (kd 2)])), ((pa 3), .inr (7, [.ref (na 3), .ref (ra 3), .int (zI (((ml 3 : Nat) : Int))), .int (zI (cz 3)), .int (kd 3)])), ((ra 0), .inr (0, [.ref (rb 0), .int (zI (((bl 0 : Nat) : Int))), .int (at9 0)])), ((ra 1), .inr (0, [.ref (rb 1), .int (zI (((bl 1 : Nat) : Int))), .int (at9 1)])), ((ra 2), .inr (0, [.ref (rb 2), .int (zI (((bl 2 : Nat) : Int))), .int (at9 2)])), ((ra 3), .inr (0, [.ref (rb 3), .int (zI (((bl 3 : Nat) : Int))), .int (at9 3)])), (apd, .inr (0, [.ref pb9, .int (zI (((pl : Nat) : Int))), .int (ta)]))] (fun r (_ : Unit) => e = 0 ∧ r = zI (countV ml bl cz pl wn bn w)) (fun _ => [(h0, .inr (9, [.ref aco, .ref ali, .ref acu, .ref a1, .ref a2, .ref apd, .ref asc, .ref fo, .int (zI (((wn : Nat) : Int))), .int (zI (((bn : Nat) : Int)))])), (ali, .inl (dA 6, 4, .inr (.inr (.inr (.inr lf))))), ((pa 0), .inr (7, [.ref (na 0), .ref (ra 0), .int (zI (((ml 0 : Nat) : Int))), .int (zI (cz 0)), .int (kd 0)])), ((pa 1), .inr (7, [.ref (na 1), .ref (ra 1), .int (zI (((ml 1 : Nat) : Int))), .int (zI (cz 1)), .int (kd 1)])), ((pa 2), .inr (7, [.ref (na 2), .ref (ra 2), .int (zI (((ml 2 : Nat) : Int))), .int (zI (cz 2)), .int (kd 2)])), ((pa 3), .inr (7, [.ref (na 3), .ref (ra 3), .int (zI (((ml 3 : Nat) : Int))), .int (zI (cz 3)), .int (kd 3)])), ((ra 0), .inr (0, [.ref (rb 0), .int (zI (((bl 0 : Nat) : Int))), .int (at9 0)])), ((ra 1), .inr (0, [.ref (rb 1), .int (zI (((bl 1 : Nat) : Int))), .int (at9 1)])), ((ra 2), .inr (0, [.ref (rb 2), .int (zI (((bl 2 : Nat) : Int))), .int (at9 2)])), ((ra 3), .inr (0, [.ref (rb 3), .int (zI (((bl 3 : Nat) : Int))), .int (at9 3)])), (apd, .inr (0, [.ref pb9, .int (zI (((pl : Nat) : Int))), .int (ta)]))]) (fun E (_ : Unit) => e ≠ 0 ∧ E = xn e) (fun _ => [(h0, .inr (9, [.ref aco, .ref ali, .ref acu, .ref a1, .ref a2, .ref apd, .ref asc, .ref fo, .int (zI (((wn : Nat) : Int))), .int (zI (((bn : Nat) : Int)))])), (ali, .inl (dA 6, 4, .inr (.inr (.inr (.inr lf))))), ((pa 0), .inr (7, [.ref (na 0), .ref (ra 0), .int (zI (((ml 0 : Nat) : Int))), .int (zI (cz 0)), .int (kd 0)])), ((pa 1), .inr (7, [.ref (na 1), .ref (ra 1), .int (zI (((ml 1 : Nat) : Int))), .int (zI (cz 1)), .int (kd 1)])), ((pa 2), .inr (7, [.ref (na 2), .ref (ra 2), .int (zI (((ml 2 : Nat) : Int))), .int (zI (cz 2)), .int (kd 2)])), ((pa 3), .inr (7, [.ref (na 3), .ref (ra 3), .int (zI (((ml 3 : Nat) : Int))), .int (zI (cz 3)), .int (kd 3)])), ((ra 0), .inr (0, [.ref (rb 0), .int (zI (((bl 0 : Nat) : Int))), .int (at9 0)])), ((ra 1), .inr (0, [.ref (rb 1), .int (zI (((bl 1 : Nat) : Int))), .int (at9 1)])), ((ra 2), .inr (0, [.ref (rb 2), .int (zI (((bl 2 : Nat) : Int))), .int (at9 2)])), ((ra 3), .inr (0, [.ref (rb 3), .int (zI (((bl 3 : Nat) : Int))), .int (at9 3)])), (apd, .inr (0, [.ref pb9, .int (zI (((pl : Nat) : Int))), .int (ta)]))]) := by
  refine sx_i hst (by decide) RX1 rfl (Nat.le_of_ble_eq_true rfl) ?_
  intro pg ev s mt args below meth cd R A Q hR X exit hout hthr H locs hw ls hl
  subst hR
  have hl : lv_has ls 2 [(0, .ref h0), (1, .int (zI (w)))] := hl
  rcases (show w = 0 ∨ w = 1 ∨ w = 2 ∨ w = 3 ∨ w = 4 ∨ ¬ (0 ≤ w ∧ w < 5) by omega) with rfl | rfl | rfl | rfl | rfl | hno
  · skip
    have hec : e = 0 := by rw [he]; rfl
    refine lv_iload_n X.x X.b dX1_count_0 rfl (lv_at hl 1 rfl) ?_
    refine lv_tableIn (off := 35) (tgt := 36) X.x X.b dX1_count_1 (by decide) (by decide) rfl (by decide) ?_
    refine lv_aload_n X.x X.b dX1_count_36 rfl (lv_at hl 0 rfl) ?_
    refine z_get X hw in_X1 0 rfl rfl 5 (by decide) q187 rfl rfl dX1_count_37 ?_
    refine z_get X hw in_X10 10 rfl rfl 1 (by decide) q142 rfl rfl dX1_count_40 ?_
    exact exit () dX1_count_43 rfl ⟨hec, rfl⟩ hw (Nat.le_of_ble_eq_true rfl) (Nat.le_of_ble_eq_true rfl)
  · skip
    have hec : e = 0 := by rw [he]; rfl
    refine lv_iload_n X.x X.b dX1_count_0 rfl (lv_at hl 1 rfl) ?_
    refine lv_tableIn (off := 43) (tgt := 44) X.x X.b dX1_count_1 (by decide) (by decide) rfl (by decide) ?_
    refine lv_aload_n X.x X.b dX1_count_44 rfl (lv_at hl 0 rfl) ?_
    refine z_iconst X dX1_count_45 ?_
    refine z_iconst X dX1_count_46 ?_
    refine cv_i (c1 := 0) (s1 := 0) X hw [0, 1, 2, 3, 4, 5, 6, 7, 8, 9] [10] (wr := [(apd, .inr (0, [.ref pb9, .int (zI (((pl : Nat) : Int))), .int (ta)]))]) (va_runV (As := [.int (zI 0), .int (zI 0)]) (rest := []) X.fix (m_sum l hst D dA h0 aco ali acu a1 a2 apd asc fo wn bn hwb lf pa na ra rb ml bl cz kd at9 false false hlf hcd hml hbl _) (cwV 2 X.t (lw_V q217 q219 qs0 q37 q220) rfl rfl rfl (by decide +kernel) (pc_rmle (by decide) (by decide))) (pc_preV X hw [0, 1, 2, 3, 4, 5, 6, 7, 8, 9] rfl rfl 9 0 rfl rfl rfl) rfl rfl hl.1 rfl (lv_room (Nat.le_of_ble_eq_true rfl)) dX1_count_47 ⟨Nat.le_of_ble_eq_true rfl, Nat.le_of_ble_eq_true rfl⟩) rfl rfl rfl rfl (fun _ _ _ => pc_c00) (fun r_1 u_2 H locs hq hw => ?_)
    have hw : pc_S D A s.heap [(apd, .inr (0, [.ref pb9, .int (zI (((pl : Nat) : Int))), .int (ta)])), (h0, .inr (9, [.ref aco, .ref ali, .ref acu, .ref a1, .ref a2, .ref apd, .ref asc, .ref fo, .int (zI (((wn : Nat) : Int))), .int (zI (((bn : Nat) : Int)))])), (ali, .inl (dA 6, 4, .inr (.inr (.inr (.inr lf))))), ((pa 0), .inr (7, [.ref (na 0), .ref (ra 0), .int (zI (((ml 0 : Nat) : Int))), .int (zI (cz 0)), .int (kd 0)])), ((pa 1), .inr (7, [.ref (na 1), .ref (ra 1), .int (zI (((ml 1 : Nat) : Int))), .int (zI (cz 1)), .int (kd 1)])), ((pa 2), .inr (7, [.ref (na 2), .ref (ra 2), .int (zI (((ml 2 : Nat) : Int))), .int (zI (cz 2)), .int (kd 2)])), ((pa 3), .inr (7, [.ref (na 3), .ref (ra 3), .int (zI (((ml 3 : Nat) : Int))), .int (zI (cz 3)), .int (kd 3)])), ((ra 0), .inr (0, [.ref (rb 0), .int (zI (((bl 0 : Nat) : Int))), .int (at9 0)])), ((ra 1), .inr (0, [.ref (rb 1), .int (zI (((bl 1 : Nat) : Int))), .int (at9 1)])), ((ra 2), .inr (0, [.ref (rb 2), .int (zI (((bl 2 : Nat) : Int))), .int (at9 2)])), ((ra 3), .inr (0, [.ref (rb 3), .int (zI (((bl 3 : Nat) : Int))), .int (at9 3)]))] H locs := hw
    subst hq
    have hw : pc_S D A s.heap [(h0, .inr (9, [.ref aco, .ref ali, .ref acu, .ref a1, .ref a2, .ref apd, .ref asc, .ref fo, .int (zI (((wn : Nat) : Int))), .int (zI (((bn : Nat) : Int)))])), (ali, .inl (dA 6, 4, .inr (.inr (.inr (.inr lf))))), ((pa 0), .inr (7, [.ref (na 0), .ref (ra 0), .int (zI (((ml 0 : Nat) : Int))), .int (zI (cz 0)), .int (kd 0)])), ((pa 1), .inr (7, [.ref (na 1), .ref (ra 1), .int (zI (((ml 1 : Nat) : Int))), .int (zI (cz 1)), .int (kd 1)])), ((pa 2), .inr (7, [.ref (na 2), .ref (ra 2), .int (zI (((ml 2 : Nat) : Int))), .int (zI (cz 2)), .int (kd 2)])), ((pa 3), .inr (7, [.ref (na 3), .ref (ra 3), .int (zI (((ml 3 : Nat) : Int))), .int (zI (cz 3)), .int (kd 3)])), ((ra 0), .inr (0, [.ref (rb 0), .int (zI (((bl 0 : Nat) : Int))), .int (at9 0)])), ((ra 1), .inr (0, [.ref (rb 1), .int (zI (((bl 1 : Nat) : Int))), .int (at9 1)])), ((ra 2), .inr (0, [.ref (rb 2), .int (zI (((bl 2 : Nat) : Int))), .int (at9 2)])), ((ra 3), .inr (0, [.ref (rb 3), .int (zI (((bl 3 : Nat) : Int))), .int (at9 3)])), (apd, .inr (0, [.ref pb9, .int (zI (((pl : Nat) : Int))), .int (ta)]))] H locs := hw.sub [1, 2, 3, 4, 5, 6, 7, 8, 9, 10, 0] rfl rfl
    exact exit () dX1_count_50 rfl ⟨hec, rfl⟩ hw (Nat.le_of_ble_eq_true rfl) (Nat.le_of_ble_eq_true rfl)
  · skip
    have hec : e = 0 := by rw [he]; rfl
    refine lv_iload_n X.x X.b dX1_count_0 rfl (lv_at hl 1 rfl) ?_
    refine lv_tableIn (off := 50) (tgt := 51) X.x X.b dX1_count_1 (by decide) (by decide) rfl (by decide) ?_
    refine lv_aload_n X.x X.b dX1_count_51 rfl (lv_at hl 0 rfl) ?_
    refine z_iconst X dX1_count_52 ?_
    refine z_iconst X dX1_count_53 ?_
    refine cv_i (c1 := 0) (s1 := 0) X hw [0, 1, 2, 3, 4, 5, 6, 7, 8, 9] [10] (wr := [(apd, .inr (0, [.ref pb9, .int (zI (((pl : Nat) : Int))), .int (ta)]))]) (va_runV (As := [.int (zI 1), .int (zI 0)]) (rest := []) X.fix (m_sum l hst D dA h0 aco ali acu a1 a2 apd asc fo wn bn hwb lf pa na ra rb ml bl cz kd at9 true false hlf hcd hml hbl _) (cwV 2 X.t (lw_V q217 q219 qs0 q37 q220) rfl rfl rfl (by decide +kernel) (pc_rmle (by decide) (by decide))) (pc_preV X hw [0, 1, 2, 3, 4, 5, 6, 7, 8, 9] rfl rfl 9 0 rfl rfl rfl) rfl rfl hl.1 rfl (lv_room (Nat.le_of_ble_eq_true rfl)) dX1_count_54 ⟨Nat.le_of_ble_eq_true rfl, Nat.le_of_ble_eq_true rfl⟩) rfl rfl rfl rfl (fun _ _ _ => pc_c00) (fun r_3 u_4 H locs hq hw => ?_)
    have hw : pc_S D A s.heap [(apd, .inr (0, [.ref pb9, .int (zI (((pl : Nat) : Int))), .int (ta)])), (h0, .inr (9, [.ref aco, .ref ali, .ref acu, .ref a1, .ref a2, .ref apd, .ref asc, .ref fo, .int (zI (((wn : Nat) : Int))), .int (zI (((bn : Nat) : Int)))])), (ali, .inl (dA 6, 4, .inr (.inr (.inr (.inr lf))))), ((pa 0), .inr (7, [.ref (na 0), .ref (ra 0), .int (zI (((ml 0 : Nat) : Int))), .int (zI (cz 0)), .int (kd 0)])), ((pa 1), .inr (7, [.ref (na 1), .ref (ra 1), .int (zI (((ml 1 : Nat) : Int))), .int (zI (cz 1)), .int (kd 1)])), ((pa 2), .inr (7, [.ref (na 2), .ref (ra 2), .int (zI (((ml 2 : Nat) : Int))), .int (zI (cz 2)), .int (kd 2)])), ((pa 3), .inr (7, [.ref (na 3), .ref (ra 3), .int (zI (((ml 3 : Nat) : Int))), .int (zI (cz 3)), .int (kd 3)])), ((ra 0), .inr (0, [.ref (rb 0), .int (zI (((bl 0 : Nat) : Int))), .int (at9 0)])), ((ra 1), .inr (0, [.ref (rb 1), .int (zI (((bl 1 : Nat) : Int))), .int (at9 1)])), ((ra 2), .inr (0, [.ref (rb 2), .int (zI (((bl 2 : Nat) : Int))), .int (at9 2)])), ((ra 3), .inr (0, [.ref (rb 3), .int (zI (((bl 3 : Nat) : Int))), .int (at9 3)]))] H locs := hw
    subst hq
    have hw : pc_S D A s.heap [(h0, .inr (9, [.ref aco, .ref ali, .ref acu, .ref a1, .ref a2, .ref apd, .ref asc, .ref fo, .int (zI (((wn : Nat) : Int))), .int (zI (((bn : Nat) : Int)))])), (ali, .inl (dA 6, 4, .inr (.inr (.inr (.inr lf))))), ((pa 0), .inr (7, [.ref (na 0), .ref (ra 0), .int (zI (((ml 0 : Nat) : Int))), .int (zI (cz 0)), .int (kd 0)])), ((pa 1), .inr (7, [.ref (na 1), .ref (ra 1), .int (zI (((ml 1 : Nat) : Int))), .int (zI (cz 1)), .int (kd 1)])), ((pa 2), .inr (7, [.ref (na 2), .ref (ra 2), .int (zI (((ml 2 : Nat) : Int))), .int (zI (cz 2)), .int (kd 2)])), ((pa 3), .inr (7, [.ref (na 3), .ref (ra 3), .int (zI (((ml 3 : Nat) : Int))), .int (zI (cz 3)), .int (kd 3)])), ((ra 0), .inr (0, [.ref (rb 0), .int (zI (((bl 0 : Nat) : Int))), .int (at9 0)])), ((ra 1), .inr (0, [.ref (rb 1), .int (zI (((bl 1 : Nat) : Int))), .int (at9 1)])), ((ra 2), .inr (0, [.ref (rb 2), .int (zI (((bl 2 : Nat) : Int))), .int (at9 2)])), ((ra 3), .inr (0, [.ref (rb 3), .int (zI (((bl 3 : Nat) : Int))), .int (at9 3)])), (apd, .inr (0, [.ref pb9, .int (zI (((pl : Nat) : Int))), .int (ta)]))] H locs := hw.sub [1, 2, 3, 4, 5, 6, 7, 8, 9, 10, 0] rfl rfl
    exact exit () dX1_count_57 rfl ⟨hec, rfl⟩ hw (Nat.le_of_ble_eq_true rfl) (Nat.le_of_ble_eq_true rfl)
  · skip
    have hec : e = 0 := by rw [he]; rfl
    refine lv_iload_n X.x X.b dX1_count_0 rfl (lv_at hl 1 rfl) ?_
    refine lv_tableIn (off := 57) (tgt := 58) X.x X.b dX1_count_1 (by decide) (by decide) rfl (by decide) ?_
    refine lv_aload_n X.x X.b dX1_count_58 rfl (lv_at hl 0 rfl) ?_
    refine z_get X hw in_X1 0 rfl rfl 8 (by decide) q190 rfl rfl dX1_count_59 ?_
    exact exit () dX1_count_62 rfl ⟨hec, rfl⟩ hw (Nat.le_of_ble_eq_true rfl) (Nat.le_of_ble_eq_true rfl)
  · skip
    have hec : e = 0 := by rw [he]; rfl
    refine lv_iload_n X.x X.b dX1_count_0 rfl (lv_at hl 1 rfl) ?_
    refine lv_tableIn (off := 62) (tgt := 63) X.x X.b dX1_count_1 (by decide) (by decide) rfl (by decide) ?_
    refine lv_aload_n X.x X.b dX1_count_63 rfl (lv_at hl 0 rfl) ?_
    refine z_get X hw in_X1 0 rfl rfl 9 (by decide) q191 rfl rfl dX1_count_64 ?_
    exact exit () dX1_count_67 rfl ⟨hec, rfl⟩ hw (Nat.le_of_ble_eq_true rfl) (Nat.le_of_ble_eq_true rfl)
  · skip
    have hec : e = 2 := by rw [he, if_pos hno]
    refine lv_iload_n X.x X.b dX1_count_0 rfl (lv_at hl 1 rfl) ?_
    refine lv_tableOut (tgt := 68) X.x X.b dX1_count_1 (by rw [zI_toInt (by omega)]; omega) (by decide) ?_
    exact hthr pc_nm () rfl q312 q53 (pc_at0 X _ xIAE (by decide) pc_at_xIAE pc_ab_xIAE) hl.1 dX1_count_68 dX1_count_71 dX1_count_72 dX1_count_75 (by decide) (by decide) (by rw [hec]; exact ⟨by decide, rfl⟩) hw (Nat.le_of_ble_eq_true rfl) (Nat.le_of_ble_eq_true rfl)
set_option maxHeartbeats 4000000 in
/-- rate -/
theorem m_rate (l : Launch) (hst : l.stackTraces = false) (D : va_G) (dA : Nat → ClassId) (h0 aco ali acu a1 a2 apd asc fo wn bn : Nat) (hwb : wn ≤ 1000 ∧ bn ≤ 1000) (lf : Nat → Option Nat) (pa na ra rb ml bl : Nat → Nat) (cz : Nat → Int) (kd at9 : Nat → Int32) (hlf : ∀ j, j < 4 → lf j = some (pa j)) (hcd : ∀ j, j < 4 → -1 ≤ cz j ∧ cz j ≤ 5) (hml : ∀ j, j < 4 → ml j ≤ 1000) (hbl : ∀ j, j < 4 → bl j ≤ 1000) (hml2 : ∀ j, j < 4 → ml j ≤ 400) (hbl2 : ∀ j, j < 4 → bl j ≤ 400) : pc_F l yX1_rate cX1_rate 2 (pc_rm 13 0 0) D dA [.ref h0] [(h0, .inr (9, [.ref aco, .ref ali, .ref acu, .ref a1, .ref a2, .ref apd, .ref asc, .ref fo, .int (zI (((wn : Nat) : Int))), .int (zI (((bn : Nat) : Int)))])), (ali, .inl (dA 6, 4, .inr (.inr (.inr (.inr lf))))), ((pa 0), .inr (7, [.ref (na 0), .ref (ra 0), .int (zI (((ml 0 : Nat) : Int))), .int (zI (cz 0)), .int (kd 0)])), ((pa 1), .inr (7, [.ref (na 1), .ref (ra 1), .int (zI (((ml 1 : Nat) : Int))), .int (zI (cz 1)), .int (kd 1)])), ((pa 2), .inr (7, [.ref (na 2), .ref (ra 2), .int (zI (((ml 2 : Nat) : Int))), .int (zI (cz 2)), .int (kd 2)])), ((pa 3), .inr (7, [.ref (na 3), .ref (ra 3), .int (zI (((ml 3 : Nat) : Int))), .int (zI (cz 3)), .int (kd 3)])), ((ra 0), .inr (0, [.ref (rb 0), .int (zI (((bl 0 : Nat) : Int))), .int (at9 0)])), ((ra 1), .inr (0, [.ref (rb 1), .int (zI (((bl 1 : Nat) : Int))), .int (at9 1)])), ((ra 2), .inr (0, [.ref (rb 2), .int (zI (((bl 2 : Nat) : Int))), .int (at9 2)])), ((ra 3), .inr (0, [.ref (rb 3), .int (zI (((bl 3 : Nat) : Int))), .int (at9 3)]))] (fun r (_ : Unit) => r = rateV (sumN (if true = true then bl else ml) (fun j => decide (cz j ≠ -1) || !true) 4) (sumN (if false = true then bl else ml) (fun j => decide (cz j ≠ -1) || !true) 4)) (fun _ => [(h0, .inr (9, [.ref aco, .ref ali, .ref acu, .ref a1, .ref a2, .ref apd, .ref asc, .ref fo, .int (zI (((wn : Nat) : Int))), .int (zI (((bn : Nat) : Int)))])), (ali, .inl (dA 6, 4, .inr (.inr (.inr (.inr lf))))), ((pa 0), .inr (7, [.ref (na 0), .ref (ra 0), .int (zI (((ml 0 : Nat) : Int))), .int (zI (cz 0)), .int (kd 0)])), ((pa 1), .inr (7, [.ref (na 1), .ref (ra 1), .int (zI (((ml 1 : Nat) : Int))), .int (zI (cz 1)), .int (kd 1)])), ((pa 2), .inr (7, [.ref (na 2), .ref (ra 2), .int (zI (((ml 2 : Nat) : Int))), .int (zI (cz 2)), .int (kd 2)])), ((pa 3), .inr (7, [.ref (na 3), .ref (ra 3), .int (zI (((ml 3 : Nat) : Int))), .int (zI (cz 3)), .int (kd 3)])), ((ra 0), .inr (0, [.ref (rb 0), .int (zI (((bl 0 : Nat) : Int))), .int (at9 0)])), ((ra 1), .inr (0, [.ref (rb 1), .int (zI (((bl 1 : Nat) : Int))), .int (at9 1)])), ((ra 2), .inr (0, [.ref (rb 2), .int (zI (((bl 2 : Nat) : Int))), .int (at9 2)])), ((ra 3), .inr (0, [.ref (rb 3), .int (zI (((bl 3 : Nat) : Int))), .int (at9 3)]))]) := by
  refine st_f hst (by decide) RX1 rfl (Nat.le_of_ble_eq_true rfl) ?_
  intro pg ev s mt args below meth cd R A Q hR X exit H locs hw ls hl
  subst hR
  have hl : lv_has ls 2 [(0, .ref h0)] := hl
  have hsn := sumN_le (if false = true then bl else ml) (fun j => decide (cz j ≠ -1) || !true) 400 hml2 4 (by decide)
  have hsb := sumN_le (if true = true then bl else ml) (fun j => decide (cz j ≠ -1) || !true) 400 hbl2 4 (by decide)
  refine lv_aload_n X.x X.b dX1_rate_0 rfl (lv_at hl 0 rfl) ?_
  refine z_iconst X dX1_rate_1 ?_
  refine z_iconst X dX1_rate_2 ?_
  refine cv_i (c1 := 0) (s1 := 0) X hw [0, 1, 2, 3, 4, 5, 6, 7, 8, 9] [] (wr := []) (va_runV (As := [.int (zI 0), .int (zI 1)]) (rest := []) X.fix (m_sum l hst D dA h0 aco ali acu a1 a2 apd asc fo wn bn hwb lf pa na ra rb ml bl cz kd at9 false true hlf hcd hml hbl _) (cwV 2 X.t (lw_V q217 q219 qs0 q37 q220) rfl rfl rfl (by decide +kernel) (pc_rmle (by decide) (by decide))) (pc_preV X hw [0, 1, 2, 3, 4, 5, 6, 7, 8, 9] rfl rfl 9 0 rfl rfl rfl) rfl rfl hl.1 rfl (lv_room (Nat.le_of_ble_eq_true rfl)) dX1_rate_3 ⟨Nat.le_of_ble_eq_true rfl, Nat.le_of_ble_eq_true rfl⟩) rfl rfl rfl rfl (fun _ _ _ => pc_c00) (fun r_1 u_2 H locs hq hw => ?_)
  have hw : pc_S D A s.heap [(h0, .inr (9, [.ref aco, .ref ali, .ref acu, .ref a1, .ref a2, .ref apd, .ref asc, .ref fo, .int (zI (((wn : Nat) : Int))), .int (zI (((bn : Nat) : Int)))])), (ali, .inl (dA 6, 4, .inr (.inr (.inr (.inr lf))))), ((pa 0), .inr (7, [.ref (na 0), .ref (ra 0), .int (zI (((ml 0 : Nat) : Int))), .int (zI (cz 0)), .int (kd 0)])), ((pa 1), .inr (7, [.ref (na 1), .ref (ra 1), .int (zI (((ml 1 : Nat) : Int))), .int (zI (cz 1)), .int (kd 1)])), ((pa 2), .inr (7, [.ref (na 2), .ref (ra 2), .int (zI (((ml 2 : Nat) : Int))), .int (zI (cz 2)), .int (kd 2)])), ((pa 3), .inr (7, [.ref (na 3), .ref (ra 3), .int (zI (((ml 3 : Nat) : Int))), .int (zI (cz 3)), .int (kd 3)])), ((ra 0), .inr (0, [.ref (rb 0), .int (zI (((bl 0 : Nat) : Int))), .int (at9 0)])), ((ra 1), .inr (0, [.ref (rb 1), .int (zI (((bl 1 : Nat) : Int))), .int (at9 1)])), ((ra 2), .inr (0, [.ref (rb 2), .int (zI (((bl 2 : Nat) : Int))), .int (at9 2)])), ((ra 3), .inr (0, [.ref (rb 3), .int (zI (((bl 3 : Nat) : Int))), .int (at9 3)]))] H locs := hw
  subst hq
  refine lv_istore_n (lv' := [(1, .int (zI (((sumN (if false = true then bl else ml) (fun j => decide (cz j ≠ -1) || !true) 4 : Nat) : Int)))), (0, .ref h0)]) X.x X.b dX1_rate_6 rfl hl (by decide) rfl (fun ls hl => ?_)
  refine lv_iload_n X.x X.b dX1_rate_7 rfl (lv_at hl 0 rfl) ?_
  refine z_if_ne (tgt := 15) X dX1_rate_8 (by decide) (by omega) (fun c_3 => ?_) (fun c_3 => ?_)
  · skip
    have hnz := c_3
    refine lv_aload_n X.x X.b dX1_rate_15 rfl (lv_at hl 1 rfl) ?_
    refine z_iconst X dX1_rate_16 ?_
    refine z_iconst X dX1_rate_17 ?_
    refine cv_i (c1 := 0) (s1 := 0) X hw [0, 1, 2, 3, 4, 5, 6, 7, 8, 9] [] (wr := []) (va_runV (As := [.int (zI 1), .int (zI 1)]) (rest := []) X.fix (m_sum l hst D dA h0 aco ali acu a1 a2 apd asc fo wn bn hwb lf pa na ra rb ml bl cz kd at9 true true hlf hcd hml hbl _) (cwV 2 X.t (lw_V q217 q219 qs0 q37 q220) rfl rfl rfl (by decide +kernel) (pc_rmle (by decide) (by decide))) (pc_preV X hw [0, 1, 2, 3, 4, 5, 6, 7, 8, 9] rfl rfl 9 0 rfl rfl rfl) rfl rfl hl.1 rfl (lv_room (Nat.le_of_ble_eq_true rfl)) dX1_rate_18 ⟨Nat.le_of_ble_eq_true rfl, Nat.le_of_ble_eq_true rfl⟩) rfl rfl rfl rfl (fun _ _ _ => pc_c00) (fun r_4 u_5 H locs hq hw => ?_)
    have hw : pc_S D A s.heap [(h0, .inr (9, [.ref aco, .ref ali, .ref acu, .ref a1, .ref a2, .ref apd, .ref asc, .ref fo, .int (zI (((wn : Nat) : Int))), .int (zI (((bn : Nat) : Int)))])), (ali, .inl (dA 6, 4, .inr (.inr (.inr (.inr lf))))), ((pa 0), .inr (7, [.ref (na 0), .ref (ra 0), .int (zI (((ml 0 : Nat) : Int))), .int (zI (cz 0)), .int (kd 0)])), ((pa 1), .inr (7, [.ref (na 1), .ref (ra 1), .int (zI (((ml 1 : Nat) : Int))), .int (zI (cz 1)), .int (kd 1)])), ((pa 2), .inr (7, [.ref (na 2), .ref (ra 2), .int (zI (((ml 2 : Nat) : Int))), .int (zI (cz 2)), .int (kd 2)])), ((pa 3), .inr (7, [.ref (na 3), .ref (ra 3), .int (zI (((ml 3 : Nat) : Int))), .int (zI (cz 3)), .int (kd 3)])), ((ra 0), .inr (0, [.ref (rb 0), .int (zI (((bl 0 : Nat) : Int))), .int (at9 0)])), ((ra 1), .inr (0, [.ref (rb 1), .int (zI (((bl 1 : Nat) : Int))), .int (at9 1)])), ((ra 2), .inr (0, [.ref (rb 2), .int (zI (((bl 2 : Nat) : Int))), .int (at9 2)])), ((ra 3), .inr (0, [.ref (rb 3), .int (zI (((bl 3 : Nat) : Int))), .int (at9 3)]))] H locs := hw
    subst hq
    refine lv_i2f X.x X.b dX1_rate_21 ?_
    refine lv_iload_n X.x X.b dX1_rate_22 rfl (lv_at hl 0 rfl) ?_
    refine lv_i2f X.x X.b dX1_rate_23 ?_
    refine lv_fdiv X.x X.b dX1_rate_24 (fd_n (by omega) (by omega)) ?_
    exact exit () dX1_rate_25 (rate_1 hnz) hw (Nat.zero_le _) (Nat.zero_le _)
  · skip
    have hnz := c_3
    refine lv_fconst0 X.x X.b dX1_rate_11 ?_
    refine lv_goto (tgt := 25) X.x X.b dX1_rate_12 (by decide) ?_
    exact exit () dX1_rate_25 (rate_0 hnz) hw (Nat.zero_le _) (Nat.zero_le _)
