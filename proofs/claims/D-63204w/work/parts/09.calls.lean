/-! CALLS: the starts of contracts, and calls by contract with the frame rule in them -/
set_option maxRecDepth 100000
-- ===== rooms by level
def pc_rm (L mc ms : Nat) : Room := { frames := 10 + 2 * L, cells := mc, slots := ms, locals := 200 + 60 * L }
theorem pc_rmle {L L' a b a' b' maxL : Nat} (h : L < L') (hm : maxL ≤ 40) : (pc_rm L a b).frames + 1 ≤ (pc_rm L' a' b').frames ∧ 8 + (maxL + 11) + (pc_rm L a b).locals ≤ (pc_rm L' a' b').locals := by
  show 10 + 2 * L + 1 ≤ 10 + 2 * L' ∧ 8 + (maxL + 11) + (200 + 60 * L) ≤ 200 + 60 * L'
  omega
theorem pc_c00 {L : Nat} : 0 + (pc_rm L 0 0).cells = 0 ∧ 0 + (pc_rm L 0 0).slots = 0 := ⟨rfl, rfl⟩
theorem pc_c0 {L : Nat} {t : Bool} (h : t = false) : 0 + (pc_rm L (cond t 1 0) (cond t 6 0)).cells = 0 ∧ 0 + (pc_rm L (cond t 1 0) (cond t 6 0)).slots = 0 := by
  subst h
  exact ⟨rfl, rfl⟩
theorem pc_c1 {L L' : Nat} {t t' : Bool} (h : t = true → t' = true) : 0 + (pc_rm L (cond t 1 0) (cond t 6 0)).cells ≤ (pc_rm L' (cond t' 1 0) (cond t' 6 0)).cells ∧ 0 + (pc_rm L (cond t 1 0) (cond t 6 0)).slots ≤ (pc_rm L' (cond t' 1 0) (cond t' 6 0)).slots := by
  show 0 + cond t 1 0 ≤ cond t' 1 0 ∧ 0 + cond t 6 0 ≤ cond t' 6 0
  cases t
  · cases t' <;> decide
  · rw [h rfl]; decide
theorem pc_c2 {L : Nat} {t : Bool} (h : t = true) : 0 + 1 ≤ (pc_rm L (cond t 1 0) (cond t 6 0)).cells ∧ 0 + 6 ≤ (pc_rm L (cond t 1 0) (cond t 6 0)).slots := by
  subst h
  exact ⟨Nat.le_refl _, Nat.le_refl _⟩
section STS
variable {l : Launch} {S SX : Type} {y : MethodName} {cc : ByteArray} {nL : Nat} {rt : FieldType} {rm : Room} {D : va_G} {dA : Nat → ClassId} {as : List Value} {W0 : va_W} {Wf : S → va_W} {px : String → SX → Prop} {Wx : SX → va_W}
theorem st_i {post : Int32 → S → Prop} (hst : l.stackTraces = false) (hy : plainName y.cls = true) (own : String) (ho : y.cls = own) (hnL : (lg_sl as).length ≤ nL)
    (body : ∀ (p : Program) (e : Env) (s : State) (m : MethodId) (args : Array Value) (below : List Frame) (meth : Method) (c : Code) (R : Room) (A : Nat → Prop) (Q : State → Prop), R = rm → pc_C p l s m meth c cc nL args own D dA A →
      (∀ {pc : Nat} {ls : Array Slot} {H : Heap} {locs : List Loc} {cells slots : Nat} {r : Int32} (u : S), decode cc pc = .ok (.ireturn, 1) → narrow rt (.int r) = .int r → post r u → pc_S D A s.heap (Wf u) H locs → cells ≤ rm.cells → slots ≤ rm.slots → W p l e R s m args below meth c H locs cells slots Q (F0 m pc ls [.int r])) →
      ∀ (H : Heap) (locs : List Loc), pc_S D A s.heap W0 H locs → ∀ ls : Array Slot, lv_has ls nL (lv_args 0 as) → W p l e R s m args below meth c H locs 0 0 Q (F0 m 0 ls [])) :
    pc_I l y cc nL rt rm D dA as W0 post Wf := by
  intro sz
  refine Met.ofW (cc := cc) (maxL := nL) (ret := some rt) hy rfl ?_
  intro p e s m args below meth c s₁ B hml hv
  obtain ⟨rfl, hv⟩ := hv
  obtain ⟨rfl, hw, hK, hN, hZ⟩ := pc_open hv
  have hts := atoms_spec (ws := ws_ y cc nL (some rt)) B.pre
  have hts : ∀ w ∈ lw_all, w.before _ s = true := fun w h => hts w (List.mem_cons_of_mem _ h)
  rw [lg_entry_eq]
  refine body p e s m _ below meth c _ (va_A W0 s.heap.size) _ rfl ⟨B.exec, B.bytes, hml, ho ▸ findClass_of_methodNamed B.named, hts, hK, hN, hZ, fun q h => Or.inr h, hst, B.notSynchronized⟩ ?_ _ _ hw _ (lv_entry as hnL)
  intro pc ls H locs cells slots r u d hn hp hu h1 h2
  refine W.widen h1 h2 ?_
  exact W.zret B.exec B.bytes B.returns hn (fun t ht _ => ⟨⟨r, u, rfl, hp, by rw [ht]; exact hu.1, hu.2.1⟩, hu.2.2.F ht⟩) hu.2.2.2.2 d B.notSynchronized
theorem st_v {post : S → Prop} (hst : l.stackTraces = false) (hy : plainName y.cls = true) (own : String) (ho : y.cls = own) (hnL : (lg_sl as).length ≤ nL)
    (body : ∀ (p : Program) (e : Env) (s : State) (m : MethodId) (args : Array Value) (below : List Frame) (meth : Method) (c : Code) (R : Room) (A : Nat → Prop) (Q : State → Prop), R = rm → pc_C p l s m meth c cc nL args own D dA A → meth.name = y.name →
      (∀ {pc : Nat} {ls : Array Slot} {H : Heap} {locs : List Loc} {cells slots : Nat} (u : S), decode cc pc = .ok (.return_, 1) → post u → pc_S D A s.heap (Wf u) H locs → cells ≤ rm.cells → slots ≤ rm.slots → W p l e R s m args below meth c H locs cells slots Q (F0 m pc ls [])) →
      ∀ (H : Heap) (locs : List Loc), pc_S D A s.heap W0 H locs → ∀ ls : Array Slot, lv_has ls nL (lv_args 0 as) → W p l e R s m args below meth c H locs 0 0 Q (F0 m 0 ls [])) :
    pc_V l y cc nL rm D dA as W0 post Wf := by
  intro sz
  refine Met.ofW (cc := cc) (maxL := nL) (ret := none) hy rfl ?_
  intro p e s m args below meth c s₁ B hml hv
  obtain ⟨rfl, hv⟩ := hv
  obtain ⟨rfl, hw, hK, hN, hZ⟩ := pc_open hv
  have hts := atoms_spec (ws := ws_ y cc nL none) B.pre
  have hts : ∀ w ∈ lw_all, w.before _ s = true := fun w h => hts w (List.mem_cons_of_mem _ h)
  rw [lg_entry_eq]
  refine body p e s m _ below meth c _ (va_A W0 s.heap.size) _ rfl ⟨B.exec, B.bytes, hml, ho ▸ findClass_of_methodNamed B.named, hts, hK, hN, hZ, fun q h => Or.inr h, hst, B.notSynchronized⟩ (name_of_methodNamed B.named B.method).1 ?_ _ _ hw _ (lv_entry as hnL)
  intro pc ls H locs cells slots u d hp hu h1 h2
  refine W.widen h1 h2 ?_
  exact W.vret B.exec B.bytes B.returns (fun t ht _ => ⟨⟨u, rfl, hp, by rw [ht]; exact hu.1, hu.2.1⟩, hu.2.2.F ht⟩) hu.2.2.2.2 d B.notSynchronized
theorem st_f {post : UInt32 → S → Prop} (hst : l.stackTraces = false) (hy : plainName y.cls = true) (own : String) (ho : y.cls = own) (hnL : (lg_sl as).length ≤ nL)
    (body : ∀ (p : Program) (e : Env) (s : State) (m : MethodId) (args : Array Value) (below : List Frame) (meth : Method) (c : Code) (R : Room) (A : Nat → Prop) (Q : State → Prop), R = rm → pc_C p l s m meth c cc nL args own D dA A →
      (∀ {pc : Nat} {ls : Array Slot} {H : Heap} {locs : List Loc} {cells slots : Nat} {r : UInt32} (u : S), decode cc pc = .ok (.freturn, 1) → post r u → pc_S D A s.heap (Wf u) H locs → cells ≤ rm.cells → slots ≤ rm.slots → W p l e R s m args below meth c H locs cells slots Q (F0 m pc ls [.float r])) →
      ∀ (H : Heap) (locs : List Loc), pc_S D A s.heap W0 H locs → ∀ ls : Array Slot, lv_has ls nL (lv_args 0 as) → W p l e R s m args below meth c H locs 0 0 Q (F0 m 0 ls [])) :
    pc_F l y cc nL rm D dA as W0 post Wf := by
  intro sz
  refine Met.ofW (cc := cc) (maxL := nL) (ret := some .float) hy rfl ?_
  intro p e s m args below meth c s₁ B hml hv
  obtain ⟨rfl, hv⟩ := hv
  obtain ⟨rfl, hw, hK, hN, hZ⟩ := pc_open hv
  have hts := atoms_spec (ws := ws_ y cc nL (some .float)) B.pre
  have hts : ∀ w ∈ lw_all, w.before _ s = true := fun w h => hts w (List.mem_cons_of_mem _ h)
  rw [lg_entry_eq]
  refine body p e s m _ below meth c _ (va_A W0 s.heap.size) _ rfl ⟨B.exec, B.bytes, hml, ho ▸ findClass_of_methodNamed B.named, hts, hK, hN, hZ, fun q h => Or.inr h, hst, B.notSynchronized⟩ ?_ _ _ hw _ (lv_entry as hnL)
  intro pc ls H locs cells slots r u d hp hu h1 h2
  refine W.widen h1 h2 ?_
  exact W.fret B.exec B.bytes B.returns (fun t ht _ => ⟨⟨r, u, rfl, hp, by rw [ht]; exact hu.1, hu.2.1⟩, hu.2.2.F ht⟩) hu.2.2.2.2 d B.notSynchronized
end STS
-- ===== starts of contracts that may throw; no handlers of their own
section STX
variable {l : Launch} {S SX : Type} {y : MethodName} {cc : ByteArray} {nL : Nat} {rt : FieldType} {rm : Room} {D : va_G} {dA : Nat → ClassId} {as : List Value} {W0 : va_W} {Wf : S → va_W} {px : String → SX → Prop} {Wx : SX → va_W}
/-- how an exception leaves -/
abbrev pc_Out (p : Program) (l : Launch) (e : Env) (R : Room) (s : State) (m : MethodId) (args : Array Value) (below : List Frame) (meth : Method) (c : Code) (Q : State → Prop) (rm : Room) (D : va_G) (A : Nat → Prop) (px : String → SX → Prop) (Wx : SX → va_W) : Prop :=
  ∀ {pc : Nat} {ls : Array Slot} {rest : List Value} {H : Heap} {locs : List Loc} {cells slots : Nat} {E : String} {ce : Cell} {q : Addr} (u : SX), H[q]? = some ce → ce.vm = .none → s.vm.findClass E = some ce.cls → px E u → pc_S D A s.heap (Wx u) H locs → cells ≤ rm.cells → slots ≤ rm.slots → vx_W p l e R s m args below meth c H locs cells slots Q (F0 m pc ls rest) q
/-- 'throw new E()' of a class of ours, with the world as it is -/
abbrev pc_Thr (p : Program) (l : Launch) (e : Env) (R : Room) (s : State) (m : MethodId) (args : Array Value) (below : List Frame) (meth : Method) (c : Code) (Q : State → Prop) (rm : Room) (cc : ByteArray) (nL : Nat) (own : String) (D : va_G) (A : Nat → Prop) (px : String → SX → Prop) (Wx : SX → va_W) : Prop :=
  ∀ {pc : Nat} {ls : Array Slot} {rest : List Value} {H : Heap} {locs : List Loc} {cells slots : Nat} {cls : String} {ik ic : Nat} (names : List String) (u : SX), (Bundle.fit cls && names.all Bundle.fit) = true →
    Cond.classLink own ik cls ∈ lw_all → Cond.initialized cls ∈ lw_all → (∀ w ∈ vx_at0 own ic cls names, w.before args s = true ∧ vx_ot w = true) → ls.size = nL →
    decode cc pc = .ok (.new ik, 3) → decode cc (pc + 3) = .ok (.dup, 1) → decode cc (pc + 4) = .ok (.invokespecial ic, 3) → decode cc (pc + 7) = .ok (.athrow, 1) →
    names.length + 3 < rm.frames → (rest.map fun v => v.category).sum + (13 * (names.length + 1) + 42) ≤ rm.locals → px cls u → pc_S D A s.heap (Wx u) H locs → cells + 1 ≤ rm.cells → slots + 6 ≤ rm.slots → W p l e R s m args below meth c H locs cells slots Q (F0 m pc ls rest)
theorem pc_thrown {p : Program} {e : Env} {s : State} {m : MethodId} {args : Array Value} {below : List Frame} {meth : Method} {c : Code} {Qc : Array Value → State → Outcome → State → Prop} {sz : Nat} {A : Nat → Prop} {own : String} (X : pc_C p l s m meth c cc nL args own D dA A) (hnt : ∀ x ∈ c.exceptionTable.toList, False) :
    pc_Thr p l e rm s m args below meth c (vx_MQ below Qc (vx_X (fun _ => True) (pc_BX D A px Wx) A) args s rm.cells rm.slots A) rm cc nL own D A px Wx := by
  intro pc ls rest H locs cells slots cls ik ic names u hf hk hi hat hsz d0 d3 d4 d7 hfr hlo hpx hu hc hs
  rw [Bool.and_eq_true, List.all_eq_true] at hf
  refine vx_throw0 (names := names) X.x X.b X.st X.o hf.1 hf.2 (X.t _ hk) (X.t _ hi) (fun w h => (hat w h).1) ?_ X.Z.1 X.Z.2 hu.2.2 (hsz.trans X.ml.symm) d0 d3 d4 d7 (fun x hx => (hnt x hx).elim) hfr hlo hc hs X.lk ?_ hu.2.2.2.2 hc hs
  · intro w h
    rcases List.mem_cons.mp h with h | h
    · rw [h]; rfl
    · rcases List.mem_cons.mp h with h | h
      · rw [h]; rfl
      · exact (hat w h).2
  · intro t hvm hz hq
    refine ⟨u, trivial, ⟨hpx, hu.1.kept (fun k q hk => hq q.1 (hu.1 k q hk).lt), hu.2.1⟩, Nat.le_trans hu.2.2.1 hz, fun q h1 h2 => ?_⟩
    rw [hq q (Nat.lt_of_lt_of_le h1 hu.2.2.1)]
    exact hu.2.2.2.1 q h1 h2
theorem sx_i {post : Int32 → S → Prop} (hst : l.stackTraces = false) (hy : plainName y.cls = true) (own : String) (ho : y.cls = own) (hnL : (lg_sl as).length ≤ nL)
    (body : ∀ (p : Program) (e : Env) (s : State) (m : MethodId) (args : Array Value) (below : List Frame) (meth : Method) (c : Code) (R : Room) (A : Nat → Prop) (Q : State → Prop), R = rm → pc_C p l s m meth c cc nL args own D dA A →
      (∀ {pc : Nat} {ls : Array Slot} {H : Heap} {locs : List Loc} {cells slots : Nat} {r : Int32} (u : S), decode cc pc = .ok (.ireturn, 1) → narrow rt (.int r) = .int r → post r u → pc_S D A s.heap (Wf u) H locs → cells ≤ rm.cells → slots ≤ rm.slots → W p l e R s m args below meth c H locs cells slots Q (F0 m pc ls [.int r])) →
      pc_Out p l e R s m args below meth c Q rm D A px Wx → pc_Thr p l e R s m args below meth c Q rm cc nL own D A px Wx →
      ∀ (H : Heap) (locs : List Loc), pc_S D A s.heap W0 H locs → ∀ ls : Array Slot, lv_has ls nL (lv_args 0 as) → W p l e R s m args below meth c H locs 0 0 Q (F0 m 0 ls [])) :
    px_I l y (ws_ y cc nL (some rt)) rm D dA as W0 post Wf px Wx := by
  intro sz
  refine vx_ofW (cc := cc) (maxL := nL) (ret := some rt) hy rfl ?_
  intro p e s m args below meth c s₁ B hml hnt hv
  obtain ⟨rfl, hv⟩ := hv
  obtain ⟨rfl, hw, hK, hN, hZ⟩ := pc_open hv
  have hts := atoms_spec (ws := ws_ y cc nL (some rt)) B.pre
  have hts : ∀ w ∈ lw_all, w.before _ s = true := fun w h => hts w (List.mem_cons_of_mem _ h)
  rw [lg_entry_eq]
  have X : pc_C p l s m meth c cc nL as.toArray own D dA (va_A W0 s.heap.size) := ⟨B.exec, B.bytes, hml, ho ▸ findClass_of_methodNamed B.named, hts, hK, hN, hZ, fun q h => Or.inr h, hst, B.notSynchronized⟩
  refine body p e s m _ below meth c _ (va_A W0 s.heap.size) _ rfl X ?_ ?_ (pc_thrown (sz := s.heap.size) X hnt) _ _ hw _ (lv_entry as hnL)
  · intro pc ls H locs cells slots r u d hn hp hu h1 h2
    refine vx_ret (W.widen h1 h2 ?_)
    exact W.zret B.exec B.bytes B.returns hn (fun t ht _ => ⟨⟨r, u, rfl, hp, by rw [ht]; exact hu.1, hu.2.1⟩, hu.2.2.F ht⟩) hu.2.2.2.2 d B.notSynchronized
  · intro pc ls rest H locs cells slots E ce q u h1 h2 h3 h4 hu h5 h6
    exact vx_out (fun x hx => (hnt x hx).elim) X.lk h1 h2 h3 (fun t ht _ => ⟨u, trivial, ⟨h4, by rw [ht]; exact hu.1, hu.2.1⟩, hu.2.2.F ht⟩) hu.2.2.2.2 h5 h6
theorem sx_v {post : S → Prop} (hst : l.stackTraces = false) (hy : plainName y.cls = true) (own : String) (ho : y.cls = own) (hnL : (lg_sl as).length ≤ nL)
    (body : ∀ (p : Program) (e : Env) (s : State) (m : MethodId) (args : Array Value) (below : List Frame) (meth : Method) (c : Code) (R : Room) (A : Nat → Prop) (Q : State → Prop), R = rm → pc_C p l s m meth c cc nL args own D dA A →
      (∀ {pc : Nat} {ls : Array Slot} {H : Heap} {locs : List Loc} {cells slots : Nat} (u : S), decode cc pc = .ok (.return_, 1) → post u → pc_S D A s.heap (Wf u) H locs → cells ≤ rm.cells → slots ≤ rm.slots → W p l e R s m args below meth c H locs cells slots Q (F0 m pc ls [])) →
      pc_Out p l e R s m args below meth c Q rm D A px Wx → pc_Thr p l e R s m args below meth c Q rm cc nL own D A px Wx →
      ∀ (H : Heap) (locs : List Loc), pc_S D A s.heap W0 H locs → ∀ ls : Array Slot, lv_has ls nL (lv_args 0 as) → W p l e R s m args below meth c H locs 0 0 Q (F0 m 0 ls [])) :
    px_V l y (ws_ y cc nL none) rm D dA as W0 post Wf px Wx := by
  intro sz
  refine vx_ofW (cc := cc) (maxL := nL) (ret := none) hy rfl ?_
  intro p e s m args below meth c s₁ B hml hnt hv
  obtain ⟨rfl, hv⟩ := hv
  obtain ⟨rfl, hw, hK, hN, hZ⟩ := pc_open hv
  have hts := atoms_spec (ws := ws_ y cc nL none) B.pre
  have hts : ∀ w ∈ lw_all, w.before _ s = true := fun w h => hts w (List.mem_cons_of_mem _ h)
  rw [lg_entry_eq]
  have X : pc_C p l s m meth c cc nL as.toArray own D dA (va_A W0 s.heap.size) := ⟨B.exec, B.bytes, hml, ho ▸ findClass_of_methodNamed B.named, hts, hK, hN, hZ, fun q h => Or.inr h, hst, B.notSynchronized⟩
  refine body p e s m _ below meth c _ (va_A W0 s.heap.size) _ rfl X ?_ ?_ (pc_thrown (sz := s.heap.size) X hnt) _ _ hw _ (lv_entry as hnL)
  · intro pc ls H locs cells slots u d hp hu h1 h2
    refine vx_ret (W.widen h1 h2 ?_)
    exact W.vret B.exec B.bytes B.returns (fun t ht _ => ⟨⟨u, rfl, hp, by rw [ht]; exact hu.1, hu.2.1⟩, hu.2.2.F ht⟩) hu.2.2.2.2 d B.notSynchronized
  · intro pc ls rest H locs cells slots E ce q u h1 h2 h3 h4 hu h5 h6
    exact vx_out (fun x hx => (hnt x hx).elim) X.lk h1 h2 h3 (fun t ht _ => ⟨u, trivial, ⟨h4, by rw [ht]; exact hu.1, hu.2.1⟩, hu.2.2.F ht⟩) hu.2.2.2.2 h5 h6
theorem sx_q {post : Option Nat → S → Prop} (hst : l.stackTraces = false) (hy : plainName y.cls = true) (own : String) (ho : y.cls = own) (hnL : (lg_sl as).length ≤ nL) (hrt : (∃ n, rt = .object n) ∨ ∃ t, rt = .array t)
    (body : ∀ (p : Program) (e : Env) (s : State) (m : MethodId) (args : Array Value) (below : List Frame) (meth : Method) (c : Code) (R : Room) (A : Nat → Prop) (Q : State → Prop), R = rm → pc_C p l s m meth c cc nL args own D dA A →
      (∀ {pc : Nat} {ls : Array Slot} {H : Heap} {locs : List Loc} {cells slots : Nat} {r : Option Nat} (u : S), decode cc pc = .ok (.areturn, 1) → post r u → pc_S D A s.heap (Wf u) H locs → cells ≤ rm.cells → slots ≤ rm.slots → W p l e R s m args below meth c H locs cells slots Q (F0 m pc ls [va_rf r])) →
      pc_Out p l e R s m args below meth c Q rm D A px Wx → pc_Thr p l e R s m args below meth c Q rm cc nL own D A px Wx →
      ∀ (H : Heap) (locs : List Loc), pc_S D A s.heap W0 H locs → ∀ ls : Array Slot, lv_has ls nL (lv_args 0 as) → W p l e R s m args below meth c H locs 0 0 Q (F0 m 0 ls [])) :
    px_Q l y (ws_ y cc nL (some rt)) rm D dA as W0 post Wf px Wx := by
  intro sz
  refine vx_ofW (cc := cc) (maxL := nL) (ret := some rt) hy rfl ?_
  intro p e s m args below meth c s₁ B hml hnt hv
  obtain ⟨rfl, hv⟩ := hv
  obtain ⟨rfl, hw, hK, hN, hZ⟩ := pc_open hv
  have hts := atoms_spec (ws := ws_ y cc nL (some rt)) B.pre
  have hts : ∀ w ∈ lw_all, w.before _ s = true := fun w h => hts w (List.mem_cons_of_mem _ h)
  rw [lg_entry_eq]
  have X : pc_C p l s m meth c cc nL as.toArray own D dA (va_A W0 s.heap.size) := ⟨B.exec, B.bytes, hml, ho ▸ findClass_of_methodNamed B.named, hts, hK, hN, hZ, fun q h => Or.inr h, hst, B.notSynchronized⟩
  refine body p e s m _ below meth c _ (va_A W0 s.heap.size) _ rfl X ?_ ?_ (pc_thrown (sz := s.heap.size) X hnt) _ _ hw _ (lv_entry as hnL)
  · intro pc ls H locs cells slots r u d hp hu h1 h2
    refine vx_ret (W.widen h1 h2 ?_)
    exact W.aret B.exec B.bytes B.returns hrt (by cases r with | none => exact Or.inl rfl | some a => exact Or.inr ⟨a, rfl⟩) (fun t ht _ => ⟨⟨r, u, rfl, hp, by rw [ht]; exact hu.1, hu.2.1⟩, hu.2.2.F ht⟩) hu.2.2.2.2 d B.notSynchronized
  · intro pc ls rest H locs cells slots E ce q u h1 h2 h3 h4 hu h5 h6
    exact vx_out (fun x hx => (hnt x hx).elim) X.lk h1 h2 h3 (fun t ht _ => ⟨u, trivial, ⟨h4, by rw [ht]; exact hu.1, hu.2.1⟩, hu.2.2.F ht⟩) hu.2.2.2.2 h5 h6
end STX
-- ===== calls
section CLS
variable {p : Program} {l : Launch} {e : Env} {R : Room} {s : State} {m : MethodId} {args : Array Value} {below : List Frame} {meth : Method} {c : Code} {H : Heap} {locs : List Loc} {cells slots : Nat} {Q : State → Prop}
variable {cc : ByteArray} {pc nL : Nat} {ls : Array Slot} {rest st0 : List Value} {own : String} {D : va_G} {dA : Nat → ClassId} {A : Nat → Prop}
variable {ws wc wr : va_W} {S SX : Type} {Wf : S → va_W} {px : String → SX → Prop} {Wx : SX → va_W} {mc ms : Nat} {av : Array Value}
/-- a callee's start, out of the caller's world -/
theorem pc_sub {wc : va_W} (X : pc_C p l s m meth c cc nL args own D dA A) (hw : pc_S D A s.heap ws H locs) (isC : List Nat) (hC : isC.map (fun i => ws[i]?) = wc.map some) (hn : va_nd isC = true) : pc_S D A s.heap wc H locs ∧ ∀ U : State, U.heap = H → s.WarmedH U.vm → pc_E D dA wc H.size U := by
  have h1 := hw.sub isC hn hC
  refine ⟨h1, fun U hU hW => ⟨by rw [hU], by rw [hU]; exact h1.1, h1.2.1.weaken (fun _ _ _ _ => trivial), va_K.moved hW.alike X.K, X.N.moved hW, ?_⟩⟩
  have hF := va_free (wc := wc) hw.2.1 hw.2.2 X.al isC hC
  have hz : ∀ a : Nat, a < s.heap.size → ¬ A a → H[a]? = s.heap[a]? := hw.2.2.2.1
  rw [hU]
  exact ⟨((X.Z.1.moved hW.alike).kept hz).narrow hF, ((X.Z.2.moved hW.alike).kept hz).narrow hF⟩
theorem pc_blind {as : List Value} {wc : va_W} {sz : Nat} : FrameBlind (va_Pc as (pc_E D dA wc sz)) := by
  intro a U g mk q
  obtain ⟨q0, h1, h2, h3, h4, h5, h6⟩ := q
  have hvm : (U.calling g mk a).vm = U.vm := rfl
  exact ⟨q0, h1, h2, h3, va_K.moved (u := U) (U := U.calling g mk a) (Vm.Alike.refl U.vm) h4, h5.same hvm, h6.1.moved (u := U) (U := U.calling g mk a) (Vm.Alike.refl U.vm), h6.2.moved (u := U) (U := U.calling g mk a) (Vm.Alike.refl U.vm)⟩
theorem pc_preS {as : List Value} {wc : va_W} (X : pc_C p l s m meth c cc nL args own D dA A) (hw : pc_S D A s.heap ws H locs) (isC : List Nat) (hC : isC.map (fun i => ws[i]?) = wc.map some) (hn : va_nd isC = true) : PreS s H (va_Pc as (pc_E D dA wc H.size)) as :=
  ⟨pc_blind, fun U hU hW => ⟨rfl, (pc_sub X hw isC hC hn).2 U hU hW⟩⟩
theorem pc_preV {as : List Value} {wc : va_W} {C : String} {b : Addr} {q : vw_C} (X : pc_C p l s m meth c cc nL args own D dA A) (hw : pc_S D A s.heap ws H locs) (isC : List Nat) (hC : isC.map (fun i => ws[i]?) = wc.map some) (hn : va_nd isC = true) (ci q0 : Nat) {fs : List Value} (hc : CL[ci]? = some q) (he : ws[q0]? = some (b, .inr (ci, fs))) (hq : q.1 = C) : PreV s H C b (va_Pc (.ref b :: as) (pc_E D dA wc H.size)) as :=
  ⟨pc_blind, by rw [← hq]; exact va_recv X.K hw.1 hc he, fun U hU hW => ⟨rfl, (pc_sub X hw isC hC hn).2 U hU hW⟩⟩
/-- the world behind a call -/
theorem pc_back {A0 : Nat → Prop} {w1 : va_W} {H1 : Heap} {locs1 : List Loc} (hw : pc_S D A0 s.heap ws H locs) (hA : ∀ q, s.heap.size ≤ q → A0 q) (isC isR : List Nat) (hC : isC.map (fun i => ws[i]?) = wc.map some) (hR : isR.map (fun i => ws[i]?) = wr.map some) (hn : va_nd isR = true) (hd : isR.all (fun i => !isC.contains i) = true) (hk : ∀ q : Nat, q < H.size → ¬ va_A wc H.size q → H1[q]? = H[q]?) (hP1 : va_P D CL w1 H1) (hD1 : va_D (va_A wc H.size) w1) (hS : va_S A0 s.heap H1 locs1) : pc_S D A0 s.heap (wr ++ w1) H1 locs1 := by
  have hF := va_free (wc := wc) hw.2.1 hw.2.2 hA isC hC
  have hdis : ∀ i ∈ isR, i ∉ isC := by
    intro i hi h
    have := List.all_eq_true.mp hd i hi
    simp [h] at this
  obtain ⟨h1, h2⟩ := va_join (wr := wr) hw.1 hw.2.1 isC isR hC hR hn hdis hk hF hP1 hD1
  exact ⟨h1, h2, hS⟩
theorem cv_i {post : Int32 → S → Prop} (X : pc_C p l s m meth c cc nL args own D dA A) (hw : pc_S D A s.heap ws H locs) (isC isR : List Nat) (hr : va_Run p l e R s m args below meth c H locs cells slots mc ms (F0 m pc ls st0) rest (va_Qi post (pc_B D (va_A wc H.size) Wf) (va_A wc H.size) av) (va_A wc H.size))
    (hC : isC.map (fun i => ws[i]?) = wc.map some) (hR : isR.map (fun i => ws[i]?) = wr.map some) (hn : va_nd isR = true) (hd : isR.all (fun i => !isC.contains i) = true) {c1 s1 : Nat} (hc : ∀ (r : Int32) (u : S), post r u → cells + mc = c1 ∧ slots + ms = s1)
    (k : ∀ (r : Int32) (u : S) (H1 : Heap) (locs1 : List Loc), post r u → pc_S D A s.heap (wr ++ Wf u) H1 locs1 → W p l e R s m args below meth c H1 locs1 c1 s1 Q (F0 m (pc + 3) ls (.int r :: rest))) : W p l e R s m args below meth c H locs cells slots Q (F0 m pc ls st0) := by
  have hF := va_free (wc := wc) hw.2.1 hw.2.2 X.al isC hC
  refine va_calli hr hw.2.2 (fun q _ h => hF q h) hF (fun r u t H1 locs1 ht _ hp hB _ hk hS => ?_)
  subst ht
  obtain ⟨rfl, rfl⟩ := hc r u hp
  exact k r u _ locs1 hp (pc_back hw X.al isC isR hC hR hn hd hk hB.1 hB.2 hS)
theorem cv_v {post : S → Prop} (X : pc_C p l s m meth c cc nL args own D dA A) (hw : pc_S D A s.heap ws H locs) (isC isR : List Nat) (hr : va_Run p l e R s m args below meth c H locs cells slots mc ms (F0 m pc ls st0) rest (va_Qv post (pc_B D (va_A wc H.size) Wf) (va_A wc H.size) av) (va_A wc H.size))
    (hC : isC.map (fun i => ws[i]?) = wc.map some) (hR : isR.map (fun i => ws[i]?) = wr.map some) (hn : va_nd isR = true) (hd : isR.all (fun i => !isC.contains i) = true) {c1 s1 : Nat} (hc : ∀ u : S, post u → cells + mc = c1 ∧ slots + ms = s1)
    (k : ∀ (u : S) (H1 : Heap) (locs1 : List Loc), post u → pc_S D A s.heap (wr ++ Wf u) H1 locs1 → W p l e R s m args below meth c H1 locs1 c1 s1 Q (F0 m (pc + 3) ls rest)) : W p l e R s m args below meth c H locs cells slots Q (F0 m pc ls st0) := by
  have hF := va_free (wc := wc) hw.2.1 hw.2.2 X.al isC hC
  refine va_callv hr hw.2.2 (fun q _ h => hF q h) hF (fun u t H1 locs1 ht _ hp hB _ hk hS => ?_)
  subst ht
  obtain ⟨rfl, rfl⟩ := hc u hp
  exact k u _ locs1 hp (pc_back hw X.al isC isR hC hR hn hd hk hB.1 hB.2 hS)
theorem cv_f {post : UInt32 → S → Prop} (X : pc_C p l s m meth c cc nL args own D dA A) (hw : pc_S D A s.heap ws H locs) (isC isR : List Nat) (hr : va_Run p l e R s m args below meth c H locs cells slots mc ms (F0 m pc ls st0) rest (va_Qf post (pc_B D (va_A wc H.size) Wf) (va_A wc H.size) av) (va_A wc H.size))
    (hC : isC.map (fun i => ws[i]?) = wc.map some) (hR : isR.map (fun i => ws[i]?) = wr.map some) (hn : va_nd isR = true) (hd : isR.all (fun i => !isC.contains i) = true) {c1 s1 : Nat} (hc : ∀ (r : UInt32) (u : S), post r u → cells + mc = c1 ∧ slots + ms = s1)
    (k : ∀ (r : UInt32) (u : S) (H1 : Heap) (locs1 : List Loc), post r u → pc_S D A s.heap (wr ++ Wf u) H1 locs1 → W p l e R s m args below meth c H1 locs1 c1 s1 Q (F0 m (pc + 3) ls (.float r :: rest))) : W p l e R s m args below meth c H locs cells slots Q (F0 m pc ls st0) := by
  have hF := va_free (wc := wc) hw.2.1 hw.2.2 X.al isC hC
  refine va_callf hr hw.2.2 (fun q _ h => hF q h) hF (fun r u t H1 locs1 ht _ hp hB _ hk hS => ?_)
  subst ht
  obtain ⟨rfl, rfl⟩ := hc r u hp
  exact k r u _ locs1 hp (pc_back hw X.al isC isR hC hR hn hd hk hB.1 hB.2 hS)
-- calls that may throw
theorem cx_i {post : Int32 → S → Prop} (X : pc_C p l s m meth c cc nL args own D dA A) (hw : pc_S D A s.heap ws H locs) (isC isR : List Nat) (hr : vx_Run p l e R s m args below meth c H locs cells slots mc ms (F0 m pc ls st0) rest (va_Qi post (pc_B D (va_A wc H.size) Wf) (va_A wc H.size) av) (vx_X (fun _ => True) (pc_BX D (va_A wc H.size) px Wx) (va_A wc H.size)) (va_A wc H.size))
    (hC : isC.map (fun i => ws[i]?) = wc.map some) (hR : isR.map (fun i => ws[i]?) = wr.map some) (hn : va_nd isR = true) (hd : isR.all (fun i => !isC.contains i) = true)
    (kx : ∀ (E : String) (ce : Cell) (q9 : Addr) (u : SX) (H1 : Heap) (locs1 : List Loc), px E u → pc_S D A s.heap (wr ++ Wx u) H1 locs1 → H1[q9]? = some ce → ce.vm = .none → s.vm.findClass E = some ce.cls → vx_W p l e R s m args below meth c H1 locs1 (cells + mc) (slots + ms) Q (F0 m pc ls rest) q9)
    {c1 s1 : Nat} (hc : ∀ (r : Int32) (u : S), post r u → cells + mc = c1 ∧ slots + ms = s1)
    (k : ∀ (r : Int32) (u : S) (H1 : Heap) (locs1 : List Loc), post r u → pc_S D A s.heap (wr ++ Wf u) H1 locs1 → W p l e R s m args below meth c H1 locs1 c1 s1 Q (F0 m (pc + 3) ls (.int r :: rest))) : W p l e R s m args below meth c H locs cells slots Q (F0 m pc ls st0) := by
  have hF := va_free (wc := wc) hw.2.1 hw.2.2 X.al isC hC
  refine vx_calli hr hw.2.2 (fun q _ h => hF q h) hF (fun q _ h => hF q h) (fun E ce q9 u t H1 locs1 ht _ _ hB _ hk hS h1 h2 h3 => ?_) (fun r u t H1 locs1 ht _ hp hB _ hk hS => ?_)
  · subst ht
    exact kx E ce q9 u _ locs1 hB.1 (pc_back hw X.al isC isR hC hR hn hd hk hB.2.1 hB.2.2 hS) h1 h2 h3
  · subst ht
    obtain ⟨rfl, rfl⟩ := hc r u hp
    exact k r u _ locs1 hp (pc_back hw X.al isC isR hC hR hn hd hk hB.1 hB.2 hS)
theorem cx_v {post : S → Prop} (X : pc_C p l s m meth c cc nL args own D dA A) (hw : pc_S D A s.heap ws H locs) (isC isR : List Nat) (hr : vx_Run p l e R s m args below meth c H locs cells slots mc ms (F0 m pc ls st0) rest (va_Qv post (pc_B D (va_A wc H.size) Wf) (va_A wc H.size) av) (vx_X (fun _ => True) (pc_BX D (va_A wc H.size) px Wx) (va_A wc H.size)) (va_A wc H.size))
    (hC : isC.map (fun i => ws[i]?) = wc.map some) (hR : isR.map (fun i => ws[i]?) = wr.map some) (hn : va_nd isR = true) (hd : isR.all (fun i => !isC.contains i) = true)
    (kx : ∀ (E : String) (ce : Cell) (q9 : Addr) (u : SX) (H1 : Heap) (locs1 : List Loc), px E u → pc_S D A s.heap (wr ++ Wx u) H1 locs1 → H1[q9]? = some ce → ce.vm = .none → s.vm.findClass E = some ce.cls → vx_W p l e R s m args below meth c H1 locs1 (cells + mc) (slots + ms) Q (F0 m pc ls rest) q9)
    {c1 s1 : Nat} (hc : ∀ (u : S), post u → cells + mc = c1 ∧ slots + ms = s1)
    (k : ∀ (u : S) (H1 : Heap) (locs1 : List Loc), post u → pc_S D A s.heap (wr ++ Wf u) H1 locs1 → W p l e R s m args below meth c H1 locs1 c1 s1 Q (F0 m (pc + 3) ls rest)) : W p l e R s m args below meth c H locs cells slots Q (F0 m pc ls st0) := by
  have hF := va_free (wc := wc) hw.2.1 hw.2.2 X.al isC hC
  refine vx_callv hr hw.2.2 (fun q _ h => hF q h) hF (fun q _ h => hF q h) (fun E ce q9 u t H1 locs1 ht _ _ hB _ hk hS h1 h2 h3 => ?_) (fun u t H1 locs1 ht _ hp hB _ hk hS => ?_)
  · subst ht
    exact kx E ce q9 u _ locs1 hB.1 (pc_back hw X.al isC isR hC hR hn hd hk hB.2.1 hB.2.2 hS) h1 h2 h3
  · subst ht
    obtain ⟨rfl, rfl⟩ := hc u hp
    exact k u _ locs1 hp (pc_back hw X.al isC isR hC hR hn hd hk hB.1 hB.2 hS)
theorem cx_q {post : Option Nat → S → Prop} (X : pc_C p l s m meth c cc nL args own D dA A) (hw : pc_S D A s.heap ws H locs) (isC isR : List Nat) (hr : vx_Run p l e R s m args below meth c H locs cells slots mc ms (F0 m pc ls st0) rest (va_Qq post (pc_B D (va_A wc H.size) Wf) (va_A wc H.size) av) (vx_X (fun _ => True) (pc_BX D (va_A wc H.size) px Wx) (va_A wc H.size)) (va_A wc H.size))
    (hC : isC.map (fun i => ws[i]?) = wc.map some) (hR : isR.map (fun i => ws[i]?) = wr.map some) (hn : va_nd isR = true) (hd : isR.all (fun i => !isC.contains i) = true)
    (kx : ∀ (E : String) (ce : Cell) (q9 : Addr) (u : SX) (H1 : Heap) (locs1 : List Loc), px E u → pc_S D A s.heap (wr ++ Wx u) H1 locs1 → H1[q9]? = some ce → ce.vm = .none → s.vm.findClass E = some ce.cls → vx_W p l e R s m args below meth c H1 locs1 (cells + mc) (slots + ms) Q (F0 m pc ls rest) q9)
    {c1 s1 : Nat} (hc : ∀ (r : Option Nat) (u : S), post r u → cells + mc = c1 ∧ slots + ms = s1)
    (k : ∀ (r : Option Nat) (u : S) (H1 : Heap) (locs1 : List Loc), post r u → pc_S D A s.heap (wr ++ Wf u) H1 locs1 → W p l e R s m args below meth c H1 locs1 c1 s1 Q (F0 m (pc + 3) ls (va_rf r :: rest))) : W p l e R s m args below meth c H locs cells slots Q (F0 m pc ls st0) := by
  have hF := va_free (wc := wc) hw.2.1 hw.2.2 X.al isC hC
  refine vx_callq hr hw.2.2 (fun q _ h => hF q h) hF (fun q _ h => hF q h) (fun E ce q9 u t H1 locs1 ht _ _ hB _ hk hS h1 h2 h3 => ?_) (fun r u t H1 locs1 ht _ hp hB _ hk hS => ?_)
  · subst ht
    exact kx E ce q9 u _ locs1 hB.1 (pc_back hw X.al isC isR hC hR hn hd hk hB.2.1 hB.2.2 hS) h1 h2 h3
  · subst ht
    obtain ⟨rfl, rfl⟩ := hc r u hp
    exact k r u _ locs1 hp (pc_back hw X.al isC isR hC hR hn hd hk hB.1 hB.2 hS)
end CLS
