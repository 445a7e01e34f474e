/-! FRAME: a contract over a small world gives one over a bigger world -/
set_option maxHeartbeats 1000000 in
theorem px_frame {S SX S' SX' : Type} {l : Launch} {y : MethodName} {wd : List Cond} {rm : Room} {D : va_G} {dA : Nat → ClassId} {as : List Value} {w W wr : va_W} {post : Int32 → S → Prop} {Wf : S → va_W} {px : String → SX → Prop} {Wx : SX → va_W} {post' : Int32 → S' → Prop} {Wf' : S' → va_W} {px' : String → SX' → Prop} {Wx' : SX' → va_W}
    (con : px_I l y wd rm D dA as w post Wf px Wx) (isC isR : List Nat) (hC : isC.map (fun i => W[i]?) = w.map some) (hR : isR.map (fun i => W[i]?) = wr.map some) (hnC : va_nd isC = true) (hn : va_nd isR = true) (hd : isR.all (fun i => !isC.contains i) = true)
    (ho : ∀ r u, post r u → ∃ u', post' r u' ∧ ∃ idx : List Nat, va_nd idx = true ∧ idx.map (fun i => (wr ++ Wf u)[i]?) = (Wf' u').map some)
    (hx : ∀ E u, px E u → ∃ u', px' E u' ∧ ∃ idx : List Nat, va_nd idx = true ∧ idx.map (fun i => (wr ++ Wx u)[i]?) = (Wx' u').map some) : px_I l y wd rm D dA as W post' Wf' px' Wx' := by
  intro sz p e ha hc hk s m args below hf happ hP hK
  obtain ⟨hargs, h1, h2, h3, h4, h5, h6⟩ := hP
  subst h1
  have hw : pc_S D (va_A W s.heap.size) s.heap W s.heap [] := ⟨h2, h3.self, va_S.rf⟩
  have hA : ∀ q, s.heap.size ≤ q → va_A W s.heap.size q := fun q h => Or.inr h
  have hF := va_free (wc := w) hw.2.1 hw.2.2 hA isC hC
  have hs := hw.sub isC hnC hC
  have hPw : va_Pc as (pc_E D dA w s.heap.size) args s := ⟨hargs, rfl, hs.1, hs.2.1.weaken (fun _ _ _ _ => trivial), h4, h5, h6.1.narrow hF, h6.2.narrow hF⟩
  obtain ⟨n, o, a1, a2, a3, a4⟩ := con s.heap.size p e ha hc hk s m args below hf happ hPw hK
  refine ⟨n, o, a1, a2, a3, ?_⟩
  rcases a4 with ⟨⟨⟨r, u, ho1, hp, hB⟩, hFF⟩, L, hFE, hfr⟩ | ⟨q, ho1, E, ce, L, ⟨u, _, ⟨hp, hB⟩, hFF⟩, b1, b2, b3, b4, b5, b6⟩
  · obtain ⟨u', hp', idx, hi1, hi2⟩ := ho r u hp
    have hS : va_S (va_A W s.heap.size) s.heap (stepsAlone p.tables e n s).heap [] := ⟨hFF.1, fun q hq hn => hFF.2 q hq (fun h => hn (hF q h)), fun _ h => absurd h (List.not_mem_nil)⟩
    have hb := (pc_back hw hA isC isR hC hR hn hd hFF.2 hB.1 hB.2 hS).sub idx hi1 hi2
    exact Or.inl ⟨⟨⟨r, u', ho1, hp', hb.1, hb.2.1⟩, hFF.1, fun q hq hn => hFF.2 q hq (fun h => hn (hF q h))⟩, L, hFE, fun q hq => hF _ (hfr q hq)⟩
  · obtain ⟨u', hp', idx, hi1, hi2⟩ := hx E u hp
    have hS : va_S (va_A W s.heap.size) s.heap (stepsAlone p.tables e n s).heap [] := ⟨hFF.1, fun q hq hn => hFF.2 q hq (fun h => hn (hF q h)), fun _ h => absurd h (List.not_mem_nil)⟩
    have hb := (pc_back hw hA isC isR hC hR hn hd hFF.2 hB.1 hB.2 hS).sub idx hi1 hi2
    exact Or.inr ⟨q, ho1, E, ce, L, ⟨u', trivial, ⟨hp', hb.1, hb.2.1⟩, hFF.1, fun q hq hn => hFF.2 q hq (fun h => hn (hF q h))⟩, b1, b2, b3, b4, b5, fun z hz => hF _ (b6 z hz)⟩
