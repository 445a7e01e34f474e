/-! FRAME by permutation -/
theorem va_P.perm {D : va_G} {cl : List vw_C} {w W : va_W} {H : Heap} (h : w.Perm W) (hP : va_P D cl w H) : va_P D cl W H := by
  intro k q hk
  have h1 : q ∈ w := h.mem_iff.mpr (List.mem_of_getElem? hk)
  obtain ⟨i, hi⟩ := List.mem_iff_getElem?.mp h1
  exact hP i q hi
theorem va_D_iff {A : Nat → Prop} {w : va_W} : va_D A w ↔ (w.map (·.1)).Nodup ∧ ∀ q ∈ w, A q.1 := by
  constructor
  · intro h
    refine ⟨?_, fun q hq => ?_⟩
    · rw [List.nodup_iff_pairwise_ne] 
      rw [List.pairwise_iff_getElem]
      intro i j hi hj hij e
      rw [List.length_map] at hi hj
      rw [List.getElem_map, List.getElem_map] at e
      have := h.1 i j _ _ (List.getElem?_eq_getElem hi) (List.getElem?_eq_getElem hj) e
      omega
    · obtain ⟨i, hi⟩ := List.mem_iff_getElem?.mp hq
      exact h.2 i q hi
  · rintro ⟨h1, h2⟩
    refine ⟨fun i j p q hi hj e => ?_, fun k q hk => h2 q (List.mem_of_getElem? hk)⟩
    rw [List.nodup_iff_pairwise_ne, List.pairwise_iff_getElem] at h1
    obtain ⟨hi1, hi2⟩ := List.getElem?_eq_some_iff.mp hi
    obtain ⟨hj1, hj2⟩ := List.getElem?_eq_some_iff.mp hj
    rcases Nat.lt_trichotomy i j with h | h | h
    · exact absurd (by rw [List.getElem_map, List.getElem_map, hi2, hj2]; exact e) (h1 i j (by rw [List.length_map]; exact hi1) (by rw [List.length_map]; exact hj1) h)
    · exact h
    · exact absurd (by rw [List.getElem_map, List.getElem_map, hi2, hj2]; exact e.symm) (h1 j i (by rw [List.length_map]; exact hj1) (by rw [List.length_map]; exact hi1) h)
theorem va_D.perm {A : Nat → Prop} {w W : va_W} (h : w.Perm W) (hD : va_D A w) : va_D A W := by
  rw [va_D_iff] at hD ⊢
  exact ⟨(h.map _).nodup_iff.mp hD.1, fun q hq => hD.2 q (h.mem_iff.mpr hq)⟩
theorem va_A.perm {w W : va_W} {sz : Nat} (h : w.Perm W) {q : Nat} (hq : va_A w sz q) : va_A W sz q := by
  rcases hq with ⟨k, e, hk⟩ | hq
  · obtain ⟨i, hi⟩ := List.mem_iff_getElem?.mp (h.mem_iff.mp (List.mem_of_getElem? hk))
    exact Or.inl ⟨i, e, hi⟩
  · exact Or.inr hq
def pick (is : List Nat) (W : va_W) : va_W := is.filterMap (fun i => W[i]?)
theorem pick_range (X : va_W) : pick (List.range X.length) X = X := by
  unfold pick
  induction X with
  | nil => rfl
  | cons x X ih =>
    rw [List.length_cons, List.range_succ_eq_map, List.filterMap_cons, List.filterMap_map]
    show x :: List.filterMap (fun i => X[i]?) (List.range X.length) = _
    rw [ih]
theorem perm_pick {X : va_W} (isC isR : List Nat) (h : (isC ++ isR).Perm (List.range X.length)) : X.Perm (pick isC X ++ pick isR X) := by
  have h1 := h.filterMap (fun i => X[i]?)
  rw [List.filterMap_append] at h1
  have h2 := pick_range X
  unfold pick at h2 ⊢
  rw [h2] at h1
  exact h1.symm
theorem map_range (w R : va_W) : (List.range w.length).map (fun i => (w ++ R)[i]?) = w.map some := by
  apply List.ext_getElem?
  intro i
  rw [List.getElem?_map, List.getElem?_map]
  by_cases h : i < w.length
  · rw [List.getElem?_range h]
    show some ((w ++ R)[i]?) = _
    rw [List.getElem?_append_left h, List.getElem?_eq_getElem h]; rfl
  · rw [List.getElem?_eq_none (by rw [List.length_range]; omega), List.getElem?_eq_none (by omega)]; rfl
theorem map_shift (w R : va_W) : ((List.range R.length).map (fun i => w.length + i)).map (fun i => (w ++ R)[i]?) = R.map some := by
  rw [List.map_map]
  have e : ((fun i => (w ++ R)[i]?) ∘ fun i => w.length + i) = fun i => R[i]? := by
    funext i
    show (w ++ R)[w.length + i]? = _
    rw [List.getElem?_append_right (by omega), show w.length + i - w.length = i by omega]
  rw [e]
  have := map_range R []
  rw [List.append_nil] at this
  exact this
theorem nd_iff (l : List Nat) : va_nd l = true ↔ l.Nodup := by
  induction l with
  | nil => simp [va_nd]
  | cons a l ih => rw [va_nd, Bool.and_eq_true, ih, List.nodup_cons, decide_eq_true_iff]
theorem nd_range (n : Nat) : va_nd (List.range n) = true := (nd_iff _).mpr List.nodup_range
theorem nd_shift (n m : Nat) : va_nd ((List.range n).map (fun i => m + i)) = true := by
  rw [nd_iff]
  refine List.Pairwise.map _ (fun a b h e => h ?_) (List.nodup_range (n := n))
  have : m + a = m + b := e
  omega
set_option maxHeartbeats 1000000 in
/-- the frame: W is w and R, in some order -/
theorem px_perm {S SX S' SX' : Type} {l : Launch} {y : MethodName} {wd : List Cond} {rm : Room} {D : va_G} {dA : Nat → ClassId} {as : List Value} {w W R : va_W} {post : Int32 → S → Prop} {Wf : S → va_W} {px : String → SX → Prop} {Wx : SX → va_W} {post' : Int32 → S' → Prop} {Wf' : S' → va_W} {px' : String → SX' → Prop} {Wx' : SX' → va_W}
    (con : px_I l y wd rm D dA as w post Wf px Wx) (hW : W.Perm (w ++ R))
    (ho : ∀ r u, post r u → ∃ u', post' r u' ∧ (R ++ Wf u).Perm (Wf' u'))
    (hx : ∀ E u, px E u → ∃ u', px' E u' ∧ (R ++ Wx u).Perm (Wx' u')) : px_I l y wd rm D dA as W post' Wf' px' Wx' := by
  intro sz p e ha hc hk s m args below hf happ hP hK
  obtain ⟨hargs, h1, h2, h3, h4, h5, h6⟩ := hP
  subst h1
  have hw : pc_S D (va_A (w ++ R) s.heap.size) s.heap (w ++ R) s.heap [] := ⟨h2.perm hW, (h3.perm hW).self, va_S.rf⟩
  have hA : ∀ q, s.heap.size ≤ q → va_A (w ++ R) s.heap.size q := fun q h => Or.inr h
  have hF := va_free (wc := w) hw.2.1 hw.2.2 hA (List.range w.length) (map_range w R)
  have hF2 : ∀ q, va_A (w ++ R) s.heap.size q → va_A W s.heap.size q := fun q h => va_A.perm hW.symm h
  have hs := hw.sub (List.range w.length) (nd_range _) (map_range w R)
  have hPw : va_Pc as (pc_E D dA w s.heap.size) args s := ⟨hargs, rfl, hs.1, hs.2.1.weaken (fun _ _ _ _ => trivial), h4, h5, h6.1.narrow (fun q h => hF2 q (hF q h)), h6.2.narrow (fun q h => hF2 q (hF q h))⟩
  have hd : ((List.range R.length).map (fun i => w.length + i)).all (fun i => !(List.range w.length).contains i) = true := by
    rw [List.all_eq_true]
    intro i hi
    obtain ⟨j, _, rfl⟩ := List.mem_map.mp hi
    have : ¬ (w.length + j) ∈ List.range w.length := by rw [List.mem_range]; omega
    simp [this]
  obtain ⟨n, o, a1, a2, a3, a4⟩ := con s.heap.size p e ha hc hk s m args below hf happ hPw hK
  refine ⟨n, o, a1, a2, a3, ?_⟩
  rcases a4 with ⟨⟨⟨r, u, ho1, hp, hB⟩, hFF⟩, L, hFE, hfr⟩ | ⟨q, ho1, E, ce, L, ⟨u, _, ⟨hp, hB⟩, hFF⟩, b1, b2, b3, b4, b5, b6⟩
  · obtain ⟨u', hp', hi⟩ := ho r u hp
    have hS : va_S (va_A (w ++ R) s.heap.size) s.heap (stepsAlone p.tables e n s).heap [] := ⟨hFF.1, fun q hq hn => hFF.2 q hq (fun h => hn (hF q h)), fun _ h => absurd h (List.not_mem_nil)⟩
    have hb := pc_back hw hA (List.range w.length) _ (map_range w R) (map_shift w R) (nd_shift _ _) hd hFF.2 hB.1 hB.2 hS
    refine Or.inl ⟨⟨⟨r, u', ho1, hp', hb.1.perm hi, ?_⟩, hFF.1, fun q hq hn => hFF.2 q hq (fun h => hn (hF2 q (hF q h)))⟩, L, hFE, fun q hq => hF2 _ (hF _ (hfr q hq))⟩
    exact (hb.2.1.perm hi).weaken (fun _ q _ h => hF2 _ h)
  · obtain ⟨u', hp', hi⟩ := hx E u hp
    have hS : va_S (va_A (w ++ R) s.heap.size) s.heap (stepsAlone p.tables e n s).heap [] := ⟨hFF.1, fun q hq hn => hFF.2 q hq (fun h => hn (hF q h)), fun _ h => absurd h (List.not_mem_nil)⟩
    have hb := pc_back hw hA (List.range w.length) _ (map_range w R) (map_shift w R) (nd_shift _ _) hd hFF.2 hB.1 hB.2 hS
    refine Or.inr ⟨q, ho1, E, ce, L, ⟨u', trivial, ⟨hp', hb.1.perm hi, ?_⟩, hFF.1, fun q hq hn => hFF.2 q hq (fun h => hn (hF2 q (hF q h)))⟩, b1, b2, b3, b4, b5, fun z hz => hF2 _ (hF _ (b6 z hz))⟩
    exact (hb.2.1.perm hi).weaken (fun _ q _ h => hF2 _ h)
