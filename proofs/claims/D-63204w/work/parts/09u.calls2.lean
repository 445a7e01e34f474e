/-! CALLS of abstract methods and through the interface -/
set_option maxRecDepth 100000
theorem lw_U {own owner : String} {idx : Nat} {C : String} {x y : MethodName} {b : ByteArray} {L : Nat} {r : Option FieldType} (h1 : Cond.methodLink own idx x ∈ lw_all) (h2 : Cond.sameMethod x.cls owner x.name x.desc ∈ lw_all) (h3 : Cond.selects C x y ∈ lw_all) (h4 : Cond.instanceMethod y ∈ lw_all) (h5 : Cond.initialized y.cls ∈ lw_all) (h6 : Cond.code y b L r ∈ lw_all) : GoodIn lw_all (va_wsU own idx C owner x y (ws_ y b L r)) := by
  refine lw_app ?_ (lw_meth h6)
  intro w hw
  simp only [List.mem_cons, List.not_mem_nil, or_false] at hw
  rcases hw with e | e | e | e | e
  · rw [e]; exact h1
  · rw [e]; exact h2
  · rw [e]; exact h3
  · rw [e]; exact h4
  · rw [e]; exact h5
theorem lw_F {own : String} {idx : Nat} {C : String} {x y : MethodName} {b : ByteArray} {L : Nat} {r : Option FieldType} (h1 : Cond.methodLink own idx x ∈ lw_all) (h3 : Cond.selects C x y ∈ lw_all) (h4 : Cond.instanceMethod y ∈ lw_all) (h5 : Cond.initialized y.cls ∈ lw_all) (h6 : Cond.code y b L r ∈ lw_all) : GoodIn lw_all (va_wsF own idx C x y (ws_ y b L r)) := by
  refine lw_app ?_ (lw_meth h6)
  intro w hw
  simp only [List.mem_cons, List.not_mem_nil, or_false] at hw
  rcases hw with e | e | e | e
  · rw [e]; exact h1
  · rw [e]; exact h3
  · rw [e]; exact h4
  · rw [e]; exact h5
theorem pc_ndp {s : State} (h : pc_N s) : va_Nw (.declares (mn_ "PostingCodes$OfGaps" "put" "(LPostingCodes$Row;II)V")) s := h.2.2.2.1 _ (List.mem_of_getElem? (i := 0) rfl)
theorem pc_ndt {s : State} (h : pc_N s) : va_Nw (.declares (mn_ "PostingCodes$OfGaps" "take" "(LPostingCodes$Row;I)I")) s := h.2.2.2.1 _ (List.mem_of_getElem? (i := 1) rfl)
theorem pc_nf {s : State} (h : pc_N s) {C : String} {x y : MethodName} (i : Nat) (hi : pc_NF[i]? = some (C, x, y)) : va_Fw C x y s := h.2.1 (C, x, y) (List.mem_of_getElem? hi)
section CLT
variable {p : Program} {l : Launch} {e : Env} {R : Room} {s : State} {m : MethodId} {args : Array Value} {below : List Frame} {meth : Method} {c : Code} {H : Heap} {locs : List Loc} {cells slots : Nat} {Q : State → Prop}
variable {cc : ByteArray} {pc nL : Nat} {ls : Array Slot} {rest st0 : List Value} {own : String} {D : va_G} {dA : Nat → ClassId} {A : Nat → Prop}
variable {ws wc wr : va_W} {S SX : Type} {Wf : S → va_W} {px : String → SX → Prop} {Wx : SX → va_W} {mc ms : Nat} {av : Array Value}
theorem pc_at (X : pc_C p l s m meth c cc nL args own D dA A) (ci : Nat) {q : vw_C} (h : CL[ci]? = some q) : ClassAt s q.1 (D.1 ci) := (X.K.1 ci q h).2
theorem cv_v5 {post : S → Prop} (X : pc_C p l s m meth c cc nL args own D dA A) (hw : pc_S D A s.heap ws H locs) (isC isR : List Nat) (hr : va_Run5 p l e R s m args below meth c H locs cells slots mc ms (F0 m pc ls st0) rest (va_Qv post (pc_B D (va_A wc H.size) Wf) (va_A wc H.size) av) (va_A wc H.size))
    (hC : isC.map (fun i => ws[i]?) = wc.map some) (hR : isR.map (fun i => ws[i]?) = wr.map some) (hn : va_nd isR = true) (hd : isR.all (fun i => !isC.contains i) = true) {c1 s1 : Nat} (hc : ∀ u : S, post u → cells + mc = c1 ∧ slots + ms = s1)
    (k : ∀ (u : S) (H1 : Heap) (locs1 : List Loc), post u → pc_S D A s.heap (wr ++ Wf u) H1 locs1 → W p l e R s m args below meth c H1 locs1 c1 s1 Q (F0 m (pc + 5) ls rest)) : W p l e R s m args below meth c H locs cells slots Q (F0 m pc ls st0) := by
  have hF := va_free (wc := wc) hw.2.1 hw.2.2 X.al isC hC
  refine va_callFv hr hw.2.2 (fun q _ h => hF q h) hF (fun u t H1 locs1 ht _ hp hB _ hk hS => ?_)
  subst ht
  obtain ⟨rfl, rfl⟩ := hc u hp
  exact k u _ locs1 hp (pc_back hw X.al isC isR hC hR hn hd hk hB.1 hB.2 hS)
theorem cx_v5 {post : S → Prop} (X : pc_C p l s m meth c cc nL args own D dA A) (hw : pc_S D A s.heap ws H locs) (isC isR : List Nat) (hr : vx_Run5 p l e R s m args below meth c H locs cells slots mc ms (F0 m pc ls st0) rest (va_Qv post (pc_B D (va_A wc H.size) Wf) (va_A wc H.size) av) (vx_X (fun _ => True) (pc_BX D (va_A wc H.size) px Wx) (va_A wc H.size)) (va_A wc H.size))
    (hC : isC.map (fun i => ws[i]?) = wc.map some) (hR : isR.map (fun i => ws[i]?) = wr.map some) (hn : va_nd isR = true) (hd : isR.all (fun i => !isC.contains i) = true)
    (kx : ∀ (E : String) (ce : Cell) (q9 : Addr) (u : SX) (H1 : Heap) (locs1 : List Loc), px E u → pc_S D A s.heap (wr ++ Wx u) H1 locs1 → H1[q9]? = some ce → ce.vm = .none → s.vm.findClass E = some ce.cls → vx_W p l e R s m args below meth c H1 locs1 (cells + mc) (slots + ms) Q (F0 m pc ls rest) q9)
    {c1 s1 : Nat} (hc : ∀ u : S, post u → cells + mc = c1 ∧ slots + ms = s1)
    (k : ∀ (u : S) (H1 : Heap) (locs1 : List Loc), post u → pc_S D A s.heap (wr ++ Wf u) H1 locs1 → W p l e R s m args below meth c H1 locs1 c1 s1 Q (F0 m (pc + 5) ls rest)) : W p l e R s m args below meth c H locs cells slots Q (F0 m pc ls st0) := by
  have hF := va_free (wc := wc) hw.2.1 hw.2.2 X.al isC hC
  refine vx_callFv hr hw.2.2 (fun q _ h => hF q h) hF (fun q _ h => hF q h) (fun E ce q9 u t H1 locs1 ht _ _ hB _ hk hS h1 h2 h3 => ?_) (fun u t H1 locs1 ht _ hp hB _ hk hS => ?_)
  · subst ht
    exact kx E ce q9 u _ locs1 hB.1 (pc_back hw X.al isC isR hC hR hn hd hk hB.2.1 hB.2.2 hS) h1 h2 h3
  · subst ht
    obtain ⟨rfl, rfl⟩ := hc u hp
    exact k u _ locs1 hp (pc_back hw X.al isC isR hC hR hn hd hk hB.1 hB.2 hS)
end CLT
