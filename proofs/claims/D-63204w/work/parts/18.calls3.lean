/-! CALLS that answer an object; methods with handlers; the encoders and readers by their number -/
set_option maxRecDepth 100000
def pc_Q {S : Type} (l : Launch) (y : MethodName) (cc : ByteArray) (nL : Nat) (rt : FieldType) (rm : Room) (D : va_G) (dA : Nat → ClassId) (as : List Value) (W0 : va_W) (post : Option Nat → S → Prop) (Wf : S → va_W) : Prop := ∀ sz : Nat, Met l y (ws_ y cc nL (some rt)) rm (va_Pc as (pc_E D dA W0 sz)) (va_Qq post (pc_B D (va_A W0 sz) Wf) (va_A W0 sz)) rm.cells rm.slots (va_A W0 sz)
section STQ
variable {l : Launch} {S SX : Type} {y : MethodName} {cc : ByteArray} {nL : Nat} {rt : FieldType} {rm : Room} {D : va_G} {dA : Nat → ClassId} {as : List Value} {W0 : va_W} {Wf : S → va_W} {px : String → SX → Prop} {Wx : SX → va_W}
theorem st_q {post : Option Nat → S → Prop} (hst : l.stackTraces = false) (hy : plainName y.cls = true) (own : String) (ho : y.cls = own) (hnL : (lg_sl as).length ≤ nL) (hrt : (∃ n, rt = .object n) ∨ ∃ t, rt = .array t)
    (body : ∀ (p : Program) (e : Env) (s : State) (m : MethodId) (args : Array Value) (below : List Frame) (meth : Method) (c : Code) (R : Room) (A : Nat → Prop) (Q : State → Prop), R = rm → pc_C p l s m meth c cc nL args own D dA A →
      (∀ {pc : Nat} {ls : Array Slot} {H : Heap} {locs : List Loc} {cells slots : Nat} {r : Option Nat} (u : S), decode cc pc = .ok (.areturn, 1) → post r u → pc_S D A s.heap (Wf u) H locs → cells ≤ rm.cells → slots ≤ rm.slots → W p l e R s m args below meth c H locs cells slots Q (F0 m pc ls [va_rf r])) →
      ∀ (H : Heap) (locs : List Loc), pc_S D A s.heap W0 H locs → ∀ ls : Array Slot, lv_has ls nL (lv_args 0 as) → W p l e R s m args below meth c H locs 0 0 Q (F0 m 0 ls [])) :
    pc_Q l y cc nL rt rm D dA as W0 post Wf := by
  intro sz
  refine Met.ofW (cc := cc) (maxL := nL) (ret := some rt) hy rfl ?_
  intro p e s m args below meth c s₁ B hml hv
  obtain ⟨rfl, hv⟩ := hv
  obtain ⟨rfl, hw, hK, hN, hZ⟩ := pc_open hv
  have hts := atoms_spec (ws := ws_ y cc nL (some rt)) B.pre
  have hts : ∀ w ∈ lw_all, w.before _ s = true := fun w h => hts w (List.mem_cons_of_mem _ h)
  rw [lg_entry_eq]
  refine body p e s m _ below meth c _ (va_A W0 s.heap.size) _ rfl ⟨B.exec, B.bytes, hml, ho ▸ findClass_of_methodNamed B.named, hts, hK, hN, hZ, fun q h => Or.inr h, hst, B.notSynchronized⟩ ?_ _ _ hw _ (lv_entry as hnL)
  intro pc ls H locs cells slots r u d hp hu h1 h2
  refine W.widen h1 h2 ?_
  exact W.aret B.exec B.bytes B.returns hrt (by cases r with | none => exact Or.inl rfl | some a => exact Or.inr ⟨a, rfl⟩) (fun t ht _ => ⟨⟨r, u, rfl, hp, by rw [ht]; exact hu.1, hu.2.1⟩, hu.2.2.F ht⟩) hu.2.2.2.2 d B.notSynchronized
/-- a method with handlers that catches all that is thrown in it -/
theorem sxh_i {post : Int32 → S → Prop} {hh : List (Nat × Nat × Nat × Nat)} (hst : l.stackTraces = false) (hy : plainName y.cls = true) (own : String) (ho : y.cls = own) (hnL : (lg_sl as).length ≤ nL)
    (body : ∀ (p : Program) (e : Env) (s : State) (m : MethodId) (args : Array Value) (below : List Frame) (meth : Method) (c : Code) (R : Room) (A : Nat → Prop) (Q : State → Prop), R = rm → pc_C p l s m meth c cc nL args own D dA A → c.exceptionTable.toList = tableOf hh →
      (∀ {pc : Nat} {ls : Array Slot} {H : Heap} {locs : List Loc} {cells slots : Nat} {r : Int32} (u : S), decode cc pc = .ok (.ireturn, 1) → narrow rt (.int r) = .int r → post r u → pc_S D A s.heap (Wf u) H locs → cells ≤ rm.cells → slots ≤ rm.slots → W p l e R s m args below meth c H locs cells slots Q (F0 m pc ls [.int r])) →
      ∀ (H : Heap) (locs : List Loc), pc_S D A s.heap W0 H locs → ∀ ls : Array Slot, lv_has ls nL (lv_args 0 as) → W p l e R s m args below meth c H locs 0 0 Q (F0 m 0 ls [])) :
    px_I (SX := Unit) l y (wsW_ y cc nL (some rt) hh) rm D dA as W0 post Wf (fun _ _ => False) (fun _ => []) := by
  intro sz
  refine vx_ofWH (cc := cc) (maxL := nL) (ret := some rt) (hh := hh) hy rfl ?_
  intro p e s m args below meth c s₁ B hml hv
  obtain ⟨rfl, hv⟩ := hv
  obtain ⟨rfl, hw, hK, hN, hZ⟩ := pc_open hv
  have hts := atoms_spec (ws := wsW_ y cc nL (some rt) hh) B.pre
  have htab := vx_table (x := y) B (hts _ List.mem_cons_self)
  have hts : ∀ w ∈ lw_all, w.before _ s = true := fun w h => hts w (List.mem_cons_of_mem _ h)
  rw [lg_entry_eq]
  have X : pc_C p l s m meth c cc nL as.toArray own D dA (va_A W0 s.heap.size) := ⟨B.exec, B.bytes, hml, ho ▸ findClass_of_methodNamed B.named, hts, hK, hN, hZ, fun q h => Or.inr h, hst, B.notSynchronized⟩
  refine body p e s m _ below meth c _ (va_A W0 s.heap.size) _ rfl X htab ?_ _ _ hw _ (lv_entry as hnL)
  intro pc ls H locs cells slots r u d hn hp hu h1 h2
  refine vx_ret (W.widen h1 h2 ?_)
  exact W.zret B.exec B.bytes B.returns hn (fun t ht _ => ⟨⟨r, u, rfl, hp, by rw [ht]; exact hu.1, hu.2.1⟩, hu.2.2.F ht⟩) hu.2.2.2.2 d B.notSynchronized
end STQ
section CLQ
variable {p : Program} {l : Launch} {e : Env} {R : Room} {s : State} {m : MethodId} {args : Array Value} {below : List Frame} {meth : Method} {c : Code} {H : Heap} {locs : List Loc} {cells slots : Nat} {Q : State → Prop}
variable {cc : ByteArray} {pc nL : Nat} {ls : Array Slot} {rest st0 : List Value} {own : String} {D : va_G} {dA : Nat → ClassId} {A : Nat → Prop}
variable {ws wc wr : va_W} {S SX : Type} {Wf : S → va_W} {px : String → SX → Prop} {Wx : SX → va_W} {mc ms : Nat} {av : Array Value}
theorem cv_q {post : Option Nat → S → Prop} (X : pc_C p l s m meth c cc nL args own D dA A) (hw : pc_S D A s.heap ws H locs) (isC isR : List Nat) (hr : va_Run p l e R s m args below meth c H locs cells slots mc ms (F0 m pc ls st0) rest (va_Qq post (pc_B D (va_A wc H.size) Wf) (va_A wc H.size) av) (va_A wc H.size))
    (hC : isC.map (fun i => ws[i]?) = wc.map some) (hR : isR.map (fun i => ws[i]?) = wr.map some) (hn : va_nd isR = true) (hd : isR.all (fun i => !isC.contains i) = true) {c1 s1 : Nat} (hc : ∀ (r : Option Nat) (u : S), post r u → cells + mc = c1 ∧ slots + ms = s1)
    (k : ∀ (r : Option Nat) (u : S) (H1 : Heap) (locs1 : List Loc), post r u → pc_S D A s.heap (wr ++ Wf u) H1 locs1 → W p l e R s m args below meth c H1 locs1 c1 s1 Q (F0 m (pc + 3) ls (va_rf r :: rest))) : W p l e R s m args below meth c H locs cells slots Q (F0 m pc ls st0) := by
  have hF := va_free (wc := wc) hw.2.1 hw.2.2 X.al isC hC
  refine va_callq hr hw.2.2 (fun q _ h => hF q h) hF (fun r u t H1 locs1 ht _ hp hB _ hk hS => ?_)
  subst ht
  obtain ⟨rfl, rfl⟩ := hc r u hp
  exact k r u _ locs1 hp (pc_back hw X.al isC isR hC hR hn hd hk hB.1 hB.2 hS)
/-- caught here -/
theorem pc_catch {hh pre suf : List (Nat × Nat × Nat × Nat)} {q : Nat × Nat × Nat × Nat} {E nm : String} {ce : Cell} {q9 : Addr} (X : pc_C p l s m meth c cc nL args own D dA A) (htab : c.exceptionTable.toList = tableOf hh) (hs : hh = pre ++ q :: suf) (hcov : covers ⟨q.1, q.2.1, q.2.2.1, q.2.2.2⟩ pc = true) (h0 : q.2.2.2 ≠ 0) (hlink : Cond.classLink own q.2.2.2 nm ∈ lw_all) (hE : (E, nm) ∈ pc_NC)
    (hpass : ∀ z ∈ pre, z.2.2.2 ≠ 0 ∧ ∃ nm : String, Cond.classLink own z.2.2.2 nm ∈ lw_all ∧ (E, nm) ∈ pc_NX) (h1 : H[q9]? = some ce) (h2 : ce.vm = .none) (h3 : s.vm.findClass E = some ce.cls)
    (k : W p l e R s m args below meth c H locs cells slots Q (F0 m q.2.2.1 ls [.ref q9])) : vx_W p l e R s m args below meth c H locs cells slots Q (F0 m pc ls rest) q9 := by
  refine vx_catch (E := E) (name := nm) X.o (tableOf pre) ⟨q.1, q.2.1, q.2.2.1, q.2.2.2⟩ (tableOf suf) ?_ ?_ hcov h0 (X.t _ hlink) ((X.N.2.2.1 _ hE).use rfl) h1 h2 h3 k
  · rw [htab, hs]
    simp [tableOf]
  · intro z hz
    obtain ⟨y, hy, rfl⟩ := List.mem_map.mp hz
    obtain ⟨g0, nm', g1, g2⟩ := hpass y hy
    exact Or.inr ⟨g0, nm', X.t _ g1, X.N.2.2.2.2.1 _ g2⟩
end CLQ
-- ===== all six codes
def enc (c k : Nat) (xs : List Nat) : List Bool := match c with
  | 0 => encP 0 k xs xs.length
  | 1 => encP 1 k xs xs.length
  | 2 => encP 2 k xs xs.length
  | 3 => encF xs (nbF xs.length)
  | 4 => encS xs
  | _ => encM xs 5 xs.length 0 0 4096
def dec (c k : Nat) (bs : List Bool) (n : Nat) : Option (List Nat) := match c with
  | 0 => (decP 0 k bs n).map (·.1)
  | 1 => (decP 1 k bs n).map (·.1)
  | 2 => (decP 2 k bs n).map (·.1)
  | 3 => (decF bs n).map (·.1)
  | 4 => (decS bs n n).map (·.1)
  | _ => (decM bs 5 n 0 4096 0).map (·.1)
theorem isNone_map {α β : Type} {o : Option α} {f : α → β} : (o.map f).isNone = o.isNone := by cases o <;> rfl
theorem enc_len {c k : Nat} {xs : List Nat} (hv : Valid xs) (hk : k ≤ 7) : (enc c k xs).length ≤ 200000 := by
  have h1 := hv.1
  unfold enc
  split
  · have := encP_len (c := 0) hv hk _ (Nat.le_refl _); omega
  · have := encP_len (c := 1) hv hk _ (Nat.le_refl _); omega
  · have := encP_len (c := 2) hv hk _ (Nat.le_refl _); omega
  · have := encF_len hv (nbF xs.length) (by unfold nbF; omega)
    have h2 : nbF xs.length ≤ 3 := by unfold nbF; omega
    omega
  · unfold encS
    rw [List.length_append, encS1_len]
    have a1 := encS2_len hv (lowN xs.length) _ (Nat.le_refl _)
    have a2 := Nat.mul_le_mul h1 (lowN_le xs.length)
    omega
  · have := encM_len xs 5 xs.length 0 0 4096 (by omega) (by omega) (valid_all hv); omega
theorem decP_spec {c k : Nat} {bs : List Bool} : ∀ (n : Nat) (ys : List Nat) (p : Nat), decP c k bs n = some (ys, p) → ys.length = n ∧ Small ys := by
  intro n
  induction n with
  | zero => intro ys p h; cases h; exact ⟨rfl, Small.nil⟩
  | succ n ih =>
    intro ys p h
    simp only [decP] at h
    split at h
    · cases h
    rename_i zs q e
    obtain ⟨h1, h2⟩ := ih _ _ e
    split at h
    · cases h
    rename_i g q2 e2
    by_cases hc : g ≤ 4095 ∧ lastI zs + 1 + (g : Int) ≤ 4095
    · obtain ⟨h3, h4⟩ := dstep_some h2 hc
      rw [h3] at h
      cases h
      exact ⟨by simp [h1], h4⟩
    · rw [dstep_none hc] at h
      cases h
theorem decF_spec {bs : List Bool} : ∀ (n : Nat) (ys : List Nat) (p : Nat × Nat), decF bs n = some (ys, p) → ys.length = n ∧ Small ys := by
  intro n
  induction n with
  | zero => intro ys p h; cases h; exact ⟨rfl, Small.nil⟩
  | succ n ih =>
    intro ys p h
    simp only [decF] at h
    split at h
    · cases h
    rename_i zs q w e
    obtain ⟨h1, h2⟩ := ih _ _ e
    split at h
    · cases h
    rename_i p1 w1 e2
    split at h
    · cases h
    by_cases hc : rdN bs p1 w1 ≤ 4095 ∧ lastI zs + 1 + ((rdN bs p1 w1 : Nat) : Int) ≤ 4095
    · obtain ⟨h3, h4⟩ := dstep_some h2 hc
      rw [h3] at h
      cases h
      exact ⟨by simp [h1], h4⟩
    · rw [dstep_none hc] at h
      cases h
theorem decS2_spec {bs : List Bool} {l n : Nat} (hl : l ≤ 12) : ∀ (i : Nat) (ys : List Nat) (p : Nat × Nat), decS2 bs l n i = some (ys, p) → ys.length = i ∧ Small ys := by
  intro i
  induction i with
  | zero => intro ys p h; cases h; exact ⟨rfl, Small.nil⟩
  | succ i ih =>
    intro ys p h
    simp only [decS2] at h
    split at h
    · cases h
    rename_i zs u q e
    obtain ⟨h1, h2⟩ := ih _ _ e
    split at h
    · rename_i hc
      cases h
      exact ⟨by simp [h1], h2.push (split_le hl (rdN_lt bs _ (Nat.le_refl _)) hc.2)⟩
    · cases h
theorem decM_spec {bs : List Bool} : ∀ (d n low hi p : Nat) (ys : List Nat) (q : Nat), n < 2 ^ d → low + n ≤ hi → hi ≤ 4096 → p ≤ bs.length → decM bs d n low hi p = some (ys, q) → ∀ i, i < ys.length → low ≤ ys.getD i 0 ∧ ys.getD i 0 < hi := by
  intro d
  induction d with
  | zero =>
    intro n low hi p ys q hn _ _ _ h i hi'
    have : n = 0 := by simpa using hn
    subst this
    cases h; exact absurd hi' (Nat.not_lt_zero _)
  | succ d ih =>
    intro n low hi p ys q hn hl hh hp h
    rw [Nat.pow_succ] at hn
    by_cases h0 : n = 0
    · subst h0
      rw [decM_0] at h
      cases h; intro i hi'; exact absurd hi' (Nat.not_lt_zero _)
    rw [decM, if_neg h0] at h
    split at h
    · cases h
    rename_i x p1 e1
    obtain ⟨hx, hp1⟩ := tm_lt (by omega) hp e1
    dsimp only at hx hp1
    split at h
    · cases h
    rename_i ls p2 e2
    obtain ⟨hl2, hp2⟩ := decM_le _ _ _ _ _ _ _ (by omega) (by omega) hp1 e2
    have g2 := ih _ _ _ _ _ _ (by omega) (by omega) (by omega) hp1 e2
    split at h
    · cases h
    rename_i rs p3 e3
    have g3 := ih _ _ _ _ _ _ (by omega) (by omega) (by omega) hp2 e3
    cases h
    intro i hi'
    rw [List.length_append, List.length_cons] at hi'
    rw [List.getD_eq_getElem?_getD]
    rcases Nat.lt_trichotomy i ls.length with h | h | h
    · rw [List.getElem?_append_left h, ← List.getD_eq_getElem?_getD]
      have := g2 i h
      omega
    · rw [List.getElem?_append_right (by omega), h, Nat.sub_self]
      simp only [List.getElem?_cons_zero, Option.getD_some]
      omega
    · rw [List.getElem?_append_right (by omega), show i - ls.length = (i - ls.length - 1) + 1 from by omega, List.getElem?_cons_succ, ← List.getD_eq_getElem?_getD]
      have := g3 (i - ls.length - 1) (by omega)
      omega
theorem dec_spec {c k n : Nat} {bs : List Bool} {ys : List Nat} (hn : n ≤ 24) (h : dec c k bs n = some ys) : ys.length = n ∧ Small ys := by
  unfold dec at h
  split at h
  · obtain ⟨⟨zs, p⟩, e1, rfl⟩ := Option.map_eq_some_iff.mp h; exact decP_spec _ _ _ e1
  · obtain ⟨⟨zs, p⟩, e1, rfl⟩ := Option.map_eq_some_iff.mp h; exact decP_spec _ _ _ e1
  · obtain ⟨⟨zs, p⟩, e1, rfl⟩ := Option.map_eq_some_iff.mp h; exact decP_spec _ _ _ e1
  · obtain ⟨⟨zs, p⟩, e1, rfl⟩ := Option.map_eq_some_iff.mp h; exact decF_spec _ _ _ e1
  · obtain ⟨⟨zs, p⟩, e1, rfl⟩ := Option.map_eq_some_iff.mp h
    unfold decS at e1
    split at e1
    · cases e1
    · exact decS2_spec (lowN_le n) _ _ _ e1
  · obtain ⟨⟨zs, p⟩, e1, rfl⟩ := Option.map_eq_some_iff.mp h
    obtain ⟨h1, h2⟩ := decM_le _ _ _ _ _ _ _ (by omega) (by omega) (Nat.zero_le _) e1
    refine ⟨h1, fun i hi => ?_⟩
    have := decM_spec _ _ _ _ _ _ _ (by omega) (by omega) (by omega) (Nat.zero_le _) e1 i hi
    dsimp only
    omega
/-- whether numbers rise -/
def incB (ys : List Nat) : Bool := (List.range (ys.length - 1)).all (fun i => decide (ys.getD i 0 < ys.getD (i + 1) 0))
theorem incB_iff {ys : List Nat} : incB ys = true ↔ ∀ i, i + 1 < ys.length → ys.getD i 0 < ys.getD (i + 1) 0 := by
  unfold incB
  rw [List.all_eq_true]
  constructor
  · intro h i hi
    exact of_decide_eq_true (h i (List.mem_range.mpr (by omega)))
  · intro h i hi
    exact decide_eq_true (h i (by have := List.mem_range.mp hi; omega))
theorem valid_of {ys : List Nat} (hl : ys.length ≤ 24) (hs : Small ys) (hi : incB ys = true) : Valid ys := ⟨hl, hs, incB_iff.mp hi⟩
/-- whether a row is just that of n numbers -/
def goodB (c k : Nat) (bs : List Bool) (n : Nat) : Bool := match dec c k bs n with
  | none => false
  | some ys => incB ys && decide (enc c k ys = bs)
theorem b2n_dec0 {P : Prop} [Decidable P] : b2n (decide P) = 0 ↔ ¬ P := by
  by_cases h : P <;> simp [h, b2n]
theorem pc_le1 {L L' : Nat} {t : Bool} : 0 + (pc_rm L (cond t 1 0) (cond t 6 0)).cells ≤ (pc_rm L' 1 6).cells ∧ 0 + (pc_rm L (cond t 1 0) (cond t 6 0)).slots ≤ (pc_rm L' 1 6).slots := by
  cases t
  · exact ⟨Nat.le_of_ble_eq_true rfl, Nat.le_of_ble_eq_true rfl⟩
  · exact ⟨Nat.le_of_ble_eq_true rfl, Nat.le_of_ble_eq_true rfl⟩
def tryR (c k : Nat) (xs : List Nat) : Int := if (enc c k xs).length ≤ 400 then ((enc c k xs).length : Int) else -1
theorem goodB_none {c k n : Nat} {bs : List Bool} (h : dec c k bs n = none) : goodB c k bs n = false := by
  unfold goodB; rw [h]
theorem goodB_some {c k n : Nat} {bs : List Bool} {ys : List Nat} (h : dec c k bs n = some ys) : goodB c k bs n = (incB ys && decide (enc c k ys = bs)) := by
  unfold goodB; rw [h]
def lastN (xs : List Nat) : Int := if xs.length = 0 then -1 else ((xs.getD (xs.length - 1) 0 : Nat) : Int)
def hereI (xs : List Nat) (p : Nat) : Int := if p < xs.length then ((xs.getD p 0 : Nat) : Int) else -1
/-- where a cursor stands that went on to the first number not below w -/
def GoP (xs : List Nat) (p : Nat) (w : Int) (q : Nat) : Prop := p ≤ q ∧ q ≤ xs.length ∧ (∀ j, p ≤ j → j < q → ((xs.getD j 0 : Nat) : Int) < w) ∧ (q < xs.length → ¬ ((xs.getD q 0 : Nat) : Int) < w)
def sumN (f : Nat → Nat) (P : Nat → Bool) : Nat → Nat
  | 0 => 0
  | i + 1 => sumN f P i + (if P i then f i else 0)
theorem sumN_le (f : Nat → Nat) (P : Nat → Bool) (B : Nat) (h : ∀ i, i < 4 → f i ≤ B) : ∀ i, i ≤ 4 → sumN f P i ≤ i * B := by
  intro i
  induction i with
  | zero => intro _; simp [sumN]
  | succ i ih =>
    intro hi
    have h1 := ih (by omega)
    have h2 := h i (by omega)
    simp only [sumN]
    rw [Nat.succ_mul]
    split <;> omega
