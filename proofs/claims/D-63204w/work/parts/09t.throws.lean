/-! THROWS: the words that a throw of ours asks, by their places -/
set_option maxRecDepth 100000
abbrev pc_nm : List String := ["java/lang/RuntimeException", "java/lang/Exception"]
theorem pc_at0 {p : Program} {l : Launch} {s : State} {m : MethodId} {args : Array Value} {meth : Method} {c : Code} {cc : ByteArray} {nL : Nat} {own : String} {D : va_G} {dA : Nat → ClassId} {A : Nat → Prop} (X : pc_C p l s m meth c cc nL args own D dA A) {L : List Cond} (ps : List Nat) (cx : String) (hcx : (cx, cx) ∈ pc_NC) (h1 : L.filter goodWord = ps.filterMap (fun i => lw_tbl[i]?)) (h2 : ∀ w ∈ L.filter (fun w => !goodWord w), w = .castable cx cx ∨ w ∈ pc_ND.map Cond.declares) : ∀ w ∈ L, w.before args s = true ∧ vx_ot w = true := by
  intro w hw
  by_cases g : goodWord w = true
  · have hm : w ∈ L.filter goodWord := List.mem_filter.mpr ⟨hw, g⟩
    rw [h1] at hm
    obtain ⟨i, -, hi⟩ := List.mem_filterMap.mp hm
    refine ⟨X.t w (lw_w i hi g), ?_⟩
    simp [vx_ot, g]
  · have hm : w ∈ L.filter (fun w => !goodWord w) := List.mem_filter.mpr ⟨hw, by simpa using g⟩
    rcases h2 w hm with e | e
    · subst e
      exact ⟨(X.N.2.2.1 _ hcx).use rfl, rfl⟩
    · obtain ⟨y, hy, rfl⟩ := List.mem_map.mp e
      exact ⟨(X.N.2.2.2.1 _ hy).use rfl, rfl⟩
theorem pc_at_xIAE : (vx_at0 RX1 9 xIAE pc_nm).filter goodWord = ([49, 264, 273, 277, 280, 282, 265, 266, 62, 63, 267, 272, 278, 294, 254, 295, 256, 296, 258, 268, 270, 260, 322, 323, 324, 287, 287, 288, 289, 290, 290, 291, 292, 265, 321, 313, 315, 275, 316, 317, 318, 319, 263, 262, 320] : List Nat).filterMap (fun i => lw_tbl[i]?) := by decide +kernel
theorem pc_ab_xIAE : ∀ w ∈ (vx_at0 RX1 9 xIAE pc_nm).filter (fun w => !goodWord w), w = .castable xIAE xIAE ∨ w ∈ pc_ND.map Cond.declares := by decide +kernel
theorem pc_at_xNSEE : (vx_at0 RX1 77 xNSEE pc_nm).filter goodWord = ([49, 264, 273, 277, 280, 282, 265, 266, 62, 63, 267, 272, 278, 294, 254, 295, 256, 296, 258, 268, 270, 260, 284, 285, 286, 287, 287, 288, 289, 290, 290, 291, 292, 265, 283, 243, 251, 252, 253, 255, 257, 259, 263, 262, 261] : List Nat).filterMap (fun i => lw_tbl[i]?) := by decide +kernel
theorem pc_ab_xNSEE : ∀ w ∈ (vx_at0 RX1 77 xNSEE pc_nm).filter (fun w => !goodWord w), w = .castable xNSEE xNSEE ∨ w ∈ pc_ND.map Cond.declares := by decide +kernel
theorem pc_at_xISE : (vx_at0 RX1 80 xISE pc_nm).filter goodWord = ([49, 264, 273, 277, 280, 282, 265, 266, 62, 63, 267, 272, 278, 294, 254, 295, 256, 296, 258, 268, 270, 260, 340, 341, 342, 287, 287, 288, 289, 290, 290, 291, 292, 265, 339, 331, 333, 276, 334, 335, 336, 337, 263, 262, 338] : List Nat).filterMap (fun i => lw_tbl[i]?) := by decide +kernel
theorem pc_ab_xISE : ∀ w ∈ (vx_at0 RX1 80 xISE pc_nm).filter (fun w => !goodWord w), w = .castable xISE xISE ∨ w ∈ pc_ND.map Cond.declares := by decide +kernel
theorem pc_nl0 {s : State} (h : pc_N s) : va_Nw (.methodLinkNest RX1 20 yX3_init "PostingCodes") s := h.1 ("PostingCodes", 20, mn_ "PostingCodes$Bytes" "<init>" "()V") (List.mem_of_getElem? (i := 0) rfl)
theorem pc_nl1 {s : State} (h : pc_N s) : va_Nw (.methodLinkNest RX3 1 yX2_init "PostingCodes") s := h.1 ("PostingCodes$Bytes", 1, mn_ "PostingCodes$OfGaps" "<init>" "()V") (List.mem_of_getElem? (i := 1) rfl)
theorem pc_nl2 {s : State} (h : pc_N s) : va_Nw (.methodLinkNest RX1 23 yX4_init "PostingCodes") s := h.1 ("PostingCodes", 23, mn_ "PostingCodes$Gamma" "<init>" "()V") (List.mem_of_getElem? (i := 2) rfl)
theorem pc_nl3 {s : State} (h : pc_N s) : va_Nw (.methodLinkNest RX4 1 yX2_init "PostingCodes") s := h.1 ("PostingCodes$Gamma", 1, mn_ "PostingCodes$OfGaps" "<init>" "()V") (List.mem_of_getElem? (i := 3) rfl)
theorem pc_nl4 {s : State} (h : pc_N s) : va_Nw (.methodLinkNest RX1 26 yX5_init "PostingCodes") s := h.1 ("PostingCodes", 26, mn_ "PostingCodes$Rice" "<init>" "()V") (List.mem_of_getElem? (i := 4) rfl)
theorem pc_nl5 {s : State} (h : pc_N s) : va_Nw (.methodLinkNest RX5 3 yX2_init "PostingCodes") s := h.1 ("PostingCodes$Rice", 3, mn_ "PostingCodes$OfGaps" "<init>" "()V") (List.mem_of_getElem? (i := 5) rfl)
theorem pc_nl6 {s : State} (h : pc_N s) : va_Nw (.methodLinkNest RX1 29 yX6_init "PostingCodes") s := h.1 ("PostingCodes", 29, mn_ "PostingCodes$Frames" "<init>" "()V") (List.mem_of_getElem? (i := 6) rfl)
theorem pc_nl7 {s : State} (h : pc_N s) : va_Nw (.methodLinkNest RX1 32 yX7_init "PostingCodes") s := h.1 ("PostingCodes", 32, mn_ "PostingCodes$Split" "<init>" "()V") (List.mem_of_getElem? (i := 7) rfl)
theorem pc_nl8 {s : State} (h : pc_N s) : va_Nw (.methodLinkNest RX1 35 yX8_init "PostingCodes") s := h.1 ("PostingCodes", 35, mn_ "PostingCodes$Middles" "<init>" "()V") (List.mem_of_getElem? (i := 8) rfl)
theorem pc_nl9 {s : State} (h : pc_N s) : va_Nw (.methodLinkNest RX1 52 yX9_init "PostingCodes") s := h.1 ("PostingCodes", 52, mn_ "PostingCodes$Cursor" "<init>" "()V") (List.mem_of_getElem? (i := 9) rfl)
theorem pc_nl10 {s : State} (h : pc_N s) : va_Nw (.methodLinkNest RX1 62 yX10_init "PostingCodes") s := h.1 ("PostingCodes", 62, mn_ "PostingCodes$Row" "<init>" "()V") (List.mem_of_getElem? (i := 10) rfl)
theorem pc_nl11 {s : State} (h : pc_N s) : va_Nw (.methodLinkNest RX1 74 yX11_init "PostingCodes") s := h.1 ("PostingCodes", 74, mn_ "PostingCodes$Postings" "<init>" "()V") (List.mem_of_getElem? (i := 11) rfl)
theorem pc_nl12 {s : State} (h : pc_N s) : va_Nw (.methodLinkNest RX11 17 yX10_init "PostingCodes") s := h.1 ("PostingCodes$Postings", 17, mn_ "PostingCodes$Row" "<init>" "()V") (List.mem_of_getElem? (i := 12) rfl)
theorem pc_nl13 {s : State} (h : pc_N s) : va_Nw (.methodLinkNest RX2 7 yX1_behind "PostingCodes") s := h.1 ("PostingCodes$OfGaps", 7, mn_ "PostingCodes" "behind" "([SI)I") (List.mem_of_getElem? (i := 13) rfl)
theorem pc_nl14 {s : State} (h : pc_N s) : va_Nw (.methodLinkNest RX6 13 yX1_behind "PostingCodes") s := h.1 ("PostingCodes$Frames", 13, mn_ "PostingCodes" "behind" "([SI)I") (List.mem_of_getElem? (i := 14) rfl)
theorem pc_nl15 {s : State} (h : pc_N s) : va_Nw (.methodLinkNest RX3 13 yX1_allow "PostingCodes") s := h.1 ("PostingCodes$Bytes", 13, mn_ "PostingCodes" "allow" "(Z)V") (List.mem_of_getElem? (i := 15) rfl)
theorem pc_nl16 {s : State} (h : pc_N s) : va_Nw (.methodLinkNest RX10 22 yX1_allow "PostingCodes") s := h.1 ("PostingCodes$Row", 22, mn_ "PostingCodes" "allow" "(Z)V") (List.mem_of_getElem? (i := 16) rfl)
theorem pc_nl17 {s : State} (h : pc_N s) : va_Nw (.methodLinkNest RX7 28 yX1_allow "PostingCodes") s := h.1 ("PostingCodes$Split", 28, mn_ "PostingCodes" "allow" "(Z)V") (List.mem_of_getElem? (i := 17) rfl)
theorem pc_nl18 {s : State} (h : pc_N s) : va_Nw (.methodLinkNest RX2 23 yX1_follow "PostingCodes") s := h.1 ("PostingCodes$OfGaps", 23, mn_ "PostingCodes" "follow" "([SII)V") (List.mem_of_getElem? (i := 18) rfl)
theorem pc_nl19 {s : State} (h : pc_N s) : va_Nw (.methodLinkNest RX6 29 yX1_follow "PostingCodes") s := h.1 ("PostingCodes$Frames", 29, mn_ "PostingCodes" "follow" "([SII)V") (List.mem_of_getElem? (i := 19) rfl)
