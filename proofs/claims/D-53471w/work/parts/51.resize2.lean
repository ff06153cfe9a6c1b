/-! LINKED HASH MAPS: the table grows, all buckets -/
set_option maxRecDepth 100000
set_option maxHeartbeats 2000000
section
variable {X : gX} {S : Nat → Prop} {m : Nat} {c : Int} {E : List lE}
/-- buckets below j are moved -/
def RI (G1 : gH) (tab tab' : Nat) (c : Int) (E : List lE) (j : Int) (G' : gH) : Prop :=
  gs G' = gs G1 ∧ gc G' = gc G1 ∧ gl G' = gl G1 ∧ (∀ a i, a ≠ tab → a ≠ tab' → (a ∉ E.map ea ∨ i ≠ 3) → gm G' a i = gm G1 a i) ∧
  (∀ b : Int, j ≤ b → b < c → chn G' 3 (gm G' tab b.toNat) ((bkt E c b).map ea)) ∧
  (∀ b : Int, 0 ≤ b → b < j → chn G' 3 (gm G' tab' b.toNat) ((bkt E (2 * c) b).map ea) ∧ chn G' 3 (gm G' tab' (b + c).toNat) ((bkt E (2 * c) (b + c)).map ea)) ∧
  ∀ b : Int, j ≤ b → b < c → gm G' tab' b.toNat = .null ∧ gm G' tab' (b + c).toNat = .null
/-- nodes as resize needs them -/
abbrev nod3 (G : gH) (e : lE) : Prop := gc G (ea e) = 24 ∧ gm G (ea e) 0 = .int (iI (ek e)) ∧ inC (ek e)
theorem nod_key {G : gH} {e1 e2 : lE} (h1 : nod3 G e1) (h2 : nod3 G e2) (he : ea e1 = ea e2) : ek e1 = ek e2 := by
  obtain ⟨-, a1, b1⟩ := h1
  obtain ⟨-, a2, b2⟩ := h2
  rw [he, a2] at a1
  have := congrArg Int32.toInt (Value.int.inj a1)
  rw [iI_rt (by omega) (by omega), iI_rt (by omega) (by omega)] at this
  exact this.symm
theorem RI.next {G1 G' G2 : gH} {tab tab' : Nat} {j : Int} (hc : isCap4 c) (hj : 0 ≤ j ∧ j < c) (hn : ∀ e ∈ E, nod3 G1 e) (ht : gc G1 tab = 105) (ht' : gc G1 tab' = 105) (htt : tab ≠ tab') (h : RI G1 tab tab' c E j G') (e1 : gs G2 = gs G') (e2 : gc G2 = gc G') (e3 : gl G2 = gl G')
    (e4 : ∀ a i, a ≠ tab → a ≠ tab' → (a ∉ (bkt E c j).map ea ∨ i ≠ 3) → gm G2 a i = gm G' a i) (e5 : ∀ i, i ≠ j.toNat → gm G2 tab i = gm G' tab i) (e6 : ∀ i, i ≠ j.toNat → i ≠ (j + c).toNat → gm G2 tab' i = gm G' tab' i)
    (e7 : chn G2 3 (gm G2 tab' j.toNat) (((bkt E c j).filter (loP c)).map ea)) (e8 : chn G2 3 (gm G2 tab' (j + c).toNat) (((bkt E c j).filter (fun e => !loP c e)).map ea)) : RI G1 tab tab' c E (j + 1) G2 := by
  obtain ⟨h1, h2, h3, h4, h5, h6, h7⟩ := h
  have hsub : ∀ a, a ∈ (bkt E c j).map ea → a ∈ E.map ea := fun a ha => by
    obtain ⟨e, he, rfl⟩ := List.mem_map.mp ha
    exact List.mem_map.mpr ⟨e, (List.mem_filter.mp he).1, rfl⟩
  have hoff : ∀ e ∈ E, ek e % c ≠ j → ∀ i, gm G2 (ea e) i = gm G' (ea e) i := fun e he hne i => by
    refine e4 _ _ (fun q => ?_) (fun q => ?_) (Or.inl (fun q => ?_))
    · have := (hn e he).1; rw [q, ht] at this; cases this
    · have := (hn e he).1; rw [q, ht'] at this; cases this
    · obtain ⟨e', he', hq⟩ := List.mem_map.mp q
      obtain ⟨q1, q2⟩ := List.mem_filter.mp he'
      have := nod_key (hn e' q1) (hn e he) hq
      simp only [decide_eq_true_eq] at q2
      rw [this] at q2
      exact hne q2
  have hE0 : ∀ e ∈ E, 0 ≤ ek e := fun e he => (hn e he).2.2.1
  have b2 := bkt2 (E := E) hc hE0 hj
  refine ⟨e1.trans h1, e2.trans h2, e3.trans h3, fun a i q1 q2 q3 => ?_, fun b b0 b1 => ?_, fun b b0 b1 => ?_, fun b b0 b1 => ?_⟩
  · rw [e4 a i q1 q2 (q3.imp (fun z w => z (hsub a w)) id)]; exact h4 a i q1 q2 q3
  · rw [e5 _ (by omega)]
    refine chn.congr _ _ (fun a ha => ?_) (h5 b (by omega) b1)
    obtain ⟨e, he, rfl⟩ := List.mem_map.mp ha
    obtain ⟨q1, q2⟩ := List.mem_filter.mp he
    simp only [decide_eq_true_eq] at q2
    exact hoff e q1 (by omega) 3
  · by_cases hbj : b = j
    · subst hbj
      rw [b2.1, b2.2]
      exact ⟨e7, e8⟩
    · obtain ⟨k1, k2⟩ := h6 b b0 (by omega)
      constructor
      · rw [e6 _ (by omega) (by omega)]
        refine chn.congr _ _ (fun a ha => ?_) k1
        obtain ⟨e, he, rfl⟩ := List.mem_map.mp ha
        obtain ⟨q1, q2⟩ := List.mem_filter.mp he
        simp only [decide_eq_true_eq] at q2
        refine hoff e q1 ?_ 3
        have := hE0 e q1
        rcases hc with rfl | rfl | rfl | rfl <;> omega
      · rw [e6 _ (by omega) (by omega)]
        refine chn.congr _ _ (fun a ha => ?_) k2
        obtain ⟨e, he, rfl⟩ := List.mem_map.mp ha
        obtain ⟨q1, q2⟩ := List.mem_filter.mp he
        simp only [decide_eq_true_eq] at q2
        refine hoff e q1 ?_ 3
        have := hE0 e q1
        rcases hc with rfl | rfl | rfl | rfl <;> omega
  · rw [e6 _ (by omega) (by omega), e6 _ (by omega) (by omega)]
    exact h7 b (by omega) b1
theorem sg_node : SG 4 24 = True := eq_true ⟨"java/util/HashMap$Node", 23, (RJ32, TJ32, 6), Or.inr rfl, rfl, by decide, by decide, Or.inl rfl, rfl, q3206⟩
theorem andR {c z : Int} (hc : isCap4 c) (hz : inC z) : iI z &&& iI (2 * c - 1) = iI (z % (2 * c)) := by
  rw [Int32.and_comm]
  refine and_c ?_ hz
  omega
theorem cd5 {C : String} {l : List Nat} : narrow (.object C) (hdv l) = hdv l := rfl
def endP (Ga Gb : gH) (tab' idx : Nat) (L : List Nat) : Prop := gs Gb = gs Ga ∧ gc Gb = gc Ga ∧ gl Gb = gl Ga ∧ (∀ a i, a ≠ tab' → (a ∉ L ∨ i ≠ 3) → gm Gb a i = gm Ga a i) ∧ (∀ i, i ≠ idx → gm Gb tab' i = gm Ga tab' i) ∧ chn Gb 3 (gm Gb tab' idx) L
theorem endP_n {Ga : gH} {tab' idx : Nat} (h : gm Ga tab' idx = .null) : endP Ga Ga tab' idx [] := ⟨rfl, rfl, rfl, fun _ _ _ _ => rfl, fun _ _ => rfl, h⟩
theorem endP_s {Ga : gH} {tab' idx x : Nat} {L0 : List Nat} (h : lnk Ga 3 (L0 ++ [x])) (hd : (L0 ++ [x]).Nodup) (ht : tab' ∉ L0 ++ [x]) : endP Ga (gput (gput Ga x 3 .null) tab' idx (hdv (L0 ++ [x]))) tab' idx (L0 ++ [x]) := by
  have hx : tab' ≠ x := fun q => ht (by simp [q])
  refine ⟨rfl, rfl, rfl, fun a i q1 q2 => ?_, fun i q => ?_, ?_⟩
  · rw [gm_pn (fun z => q1 z.1), gm_pn]
    rintro ⟨rfl, rfl⟩
    rcases q2 with q2 | q2
    · exact q2 (by simp)
    · exact q2 rfl
  · rw [gm_pn (fun z => q z.2), gm_pn (fun z => hx z.1)]
  · rw [gm_pe]
    refine chn.congr _ _ (fun a ha => gm_pn (fun z => ht (by rw [← z.1]; exact ha))) (lnk.end L0 h hd)
theorem rs_loop {Q : Option Value → gH → Prop} {d k n tab tab' : Nat} {thr nthr : Int32} {G1 : gH} (hc : isCap4 c) (hn : ∀ e ∈ E, nod3 G1 e) (hnd : (E.map ea).Nodup) (ht : gc G1 tab = 105) (ht' : gc G1 tab' = 105) (hl : gl G1 tab = c.toNat) (hl' : gl G1 tab' = (2 * c).toNat) (htt : tab ≠ tab')
    (kk : ∀ G2, RI G1 tab tab' c E c G2 → Q (some (.ref tab')) G2) : ∀ (j : Int) (G' : gH), 0 ≤ j → j ≤ c → RI G1 tab tab' c E j G' → ∀ u8 u9 u10 u11 u12 u13, Wp X Y_J4_resize d Q k n G' 151 (rsL m tab c thr nthr tab' j u8 u9 u10 u11 u12 u13) [] := by
  refine up1 (W := fun j G' => ∀ u8 u9 u10 u11 u12 u13, Wp X Y_J4_resize d Q k n G' 151 (rsL m tab c thr nthr tab' j u8 u9 u10 u11 u12 u13) []) (P := fun j G' => RI G1 tab tab' c E j G') (hi := c) 0 ?_ ?_
  · intro j G' j0 j1 hI ih u8 u9 u10 u11 u12 u13
    obtain ⟨h1, h2, h3, h4, h5, h6, h7⟩ := id hI
    have t1 : gc G' tab = 105 := by rw [h2]; exact ht
    have t2 : gc G' tab' = 105 := by rw [h2]; exact ht'
    have l1 : gl G' tab = c.toNat := by rw [h3]; exact hl
    have l2 : gl G' tab' = (2 * c).toNat := by rw [h3]; exact hl'
    have hch := h5 j (Int.le_refl _) j1
    have h7j := h7 j (Int.le_refl _) j1
    have hnB : ∀ e ∈ bkt E c j, nod3 G' e := fun e he => by
      obtain ⟨q1, q2, q3⟩ := hn e (List.mem_filter.mp he).1
      refine ⟨by rw [h2]; exact q1, ?_, q3⟩
      rw [h4 _ _ (fun q => by rw [q, ht] at q1; cases q1) (fun q => by rw [q, ht'] at q1; cases q1) (Or.inr (by decide))]
      exact q2
    have hndB : ((bkt E c j).map ea).Nodup := hnd.sublist (List.Sublist.map ea List.filter_sublist)
    have hkB : ∀ e ∈ bkt E c j, ek e % c = j := fun e he => by simpa using (List.mem_filter.mp he).2
    have next := fun G2 e1 e2 e3 e4 e5 e6 e7 e8 => ih G2 (hI.next (G2 := G2) hc ⟨j0, j1⟩ hn ht ht' htt e1 e2 e3 e4 e5 e6 e7 e8)
    generalize hBB : bkt E c j = B at hch hnB hndB hkB next
    have ctr : ∀ (w8 w9 w10 w11 w12 w13 : Option Value) (G2 : gH), gs G2 = gs G' → gc G2 = gc G' → gl G2 = gl G' → (∀ a i, a ≠ tab → a ≠ tab' → (a ∉ B.map ea ∨ i ≠ 3) → gm G2 a i = gm G' a i) → (∀ i, i ≠ j.toNat → gm G2 tab i = gm G' tab i) → (∀ i, i ≠ j.toNat → i ≠ (j + c).toNat → gm G2 tab' i = gm G' tab' i) → chn G2 3 (gm G2 tab' j.toNat) ((B.filter (loP c)).map ea) → chn G2 3 (gm G2 tab' (j + c).toNat) ((B.filter (fun e => !loP c e)).map ea) → Wp X Y_J4_resize d Q k n G2 347 (rsL m tab c thr nthr tab' j w8 w9 w10 w11 w12 w13) [] := by
      intro w8 w9 w10 w11 w12 w13 G2 e1 e2 e3 e4 e5 e6 e7 e8
      have := next G2 e1 e2 e3 e4 e5 e6 e7 e8
      refine excS rfl 151 4 _ _ _ _ _ _ ?_
      simp (disch := first | omega | (simp only [gs_new, gs_put] <;> omega)) only [exB, Nat.reduceAdd, Nat.reduceSub, Nat.reduceMul, Nat.reduceLeDiff, Nat.reduceLT, Nat.reduceEqDiff, Nat.reduceBEq, Int.reduceAdd, Int.reduceSub, Int.reduceMul, Int.reduceNeg, Int.reduceToNat, Int.reduceLE, Int.reduceLT, Int.reduceEq, Int.reduceGE, Int.reduceGT, ↓reduceIte, reduceCtorEq, gm_pe, gm_pn, gc_put, gl_put, gs_put, exists_eq_left', exists_eq_left, gs_new, gc_ne, gc_nn, gl_ne, gl_nn, gm_ne, gm_nn, cd_J4_resize, iI_rt]
      exact (this none none none none none none).wk' _ (by simp [wkL])
    cases B with
    | nil =>
      have hv : gm G' tab j.toNat = .null := hch
      refine excS rfl 347 14 _ _ _ _ _ _ ?_
      simp (disch := first | omega | (simp only [gs_new, gs_put] <;> omega)) only [exB, Nat.reduceAdd, Nat.reduceSub, Nat.reduceMul, Nat.reduceLeDiff, Nat.reduceLT, Nat.reduceEqDiff, Nat.reduceBEq, Int.reduceAdd, Int.reduceSub, Int.reduceMul, Int.reduceNeg, Int.reduceToNat, Int.reduceLE, Int.reduceLT, Int.reduceEq, Int.reduceGE, Int.reduceGT, ↓reduceIte, reduceCtorEq, gm_pe, gm_pn, gc_put, gl_put, gs_put, exists_eq_left', exists_eq_left, gs_new, gc_ne, gc_nn, gl_ne, gl_nn, gm_ne, gm_nn, cd_J4_resize, iI_rt, t1, hv]
      refine ⟨fun q => absurd q (by omega), fun _ => ⟨by omega, by omega, ctr _ _ _ _ _ _ G' rfl rfl rfl (fun _ _ _ _ _ => rfl) (fun _ _ => rfl) (fun _ _ _ => rfl) h7j.1 h7j.2⟩⟩
    | cons e Rs =>
      have hv : gm G' tab j.toNat = .ref (ea e) := hch.1
      obtain ⟨n1, n2, n3⟩ := hnB e List.mem_cons_self
      have hnt : ea e ≠ tab := fun q => by rw [q, t1] at n1; cases n1
      have hnt' : ea e ≠ tab' := fun q => by rw [q, t2] at n1; cases n1
      have hk := hkB e List.mem_cons_self
      have hjc : ¬ c ≤ j := by omega
      cases Rs with
      | nil =>
        have hnx : gm G' (ea e) 3 = .null := hch.2
        have ha := andR hc n3
        have hz0 := n3.1
        have hix : ek e % (2 * c) = if ek e / c % 2 = 0 then j else j + c := by
          split <;> (rcases hc with rfl | rfl | rfl | rfl <;> omega)
        have hG : ∀ i : Int, i = ek e % (2 * c) → Wp X Y_J4_resize d Q k n (gput (gput G' tab j.toNat .null) tab' i.toNat (.ref (ea e))) 347 (rsL m tab c thr nthr tab' j (some (.ref (ea e))) u9 u10 u11 u12 u13) [] := by
          intro i hi
          refine ctr _ _ _ _ _ _ _ rfl rfl rfl (fun a i' q1 q2 _ => ?_) (fun i' q => ?_) (fun i' q1 q2 => ?_) ?_ ?_
          · rw [gm_pn (fun z => q2 z.1), gm_pn (fun z => q1 z.1)]
          · rw [gm_pn (fun z => htt z.1), gm_pn (fun z => q z.2)]
          · rw [gm_pn, gm_pn (fun z => htt z.1.symm)]
            rintro ⟨-, rfl⟩
            rw [hi, hix] at q1 q2
            split at q1 <;> simp_all
          · by_cases hb : ek e / c % 2 = 0
            · rw [if_pos hb] at hix
              rw [hi, hix, gm_pe]
              simp only [List.filter_cons, loP, hb, decide_true, if_true, List.filter_nil, List.map_cons, List.map_nil]
              refine ⟨rfl, ?_⟩
              show gm _ _ _ = _
              rw [gm_pn (fun z => hnt' z.1), gm_pn (fun z => hnt z.1)]; exact hnx
            · rw [if_neg hb] at hix
              rw [hi, hix, gm_pn (by omega), gm_pn (fun z => htt z.1.symm), h7j.1]
              simp only [List.filter_cons, loP, hb, decide_false, Bool.false_eq_true, if_false, List.filter_nil, List.map_nil]
              rfl
          · by_cases hb : ek e / c % 2 = 0
            · rw [if_pos hb] at hix
              rw [hi, hix, gm_pn (by omega), gm_pn (fun z => htt z.1.symm), h7j.2]
              simp only [List.filter_cons, loP, hb, decide_true, Bool.not_true, Bool.false_eq_true, if_false, List.filter_nil, List.map_nil]
              rfl
            · rw [if_neg hb] at hix
              rw [hi, hix, gm_pe]
              simp only [List.filter_cons, loP, hb, decide_false, Bool.not_false, if_true, List.filter_nil, List.map_cons, List.map_nil]
              refine ⟨rfl, ?_⟩
              show gm _ _ _ = _
              rw [gm_pn (fun z => hnt' z.1), gm_pn (fun z => hnt z.1)]; exact hnx
        have hb2 : 0 ≤ ek e % (2 * c) ∧ ek e % (2 * c) < 2 * c := cap_mod (by omega) _
        have hG2 := hG _ rfl
        generalize ek e % (2 * c) = ix at ha hG2 hb2
        refine excS rfl 180 16 _ _ _ _ _ _ ?_
        simp (disch := first | omega | (simp only [gs_new, gs_put] <;> omega)) only [exC, Nat.reduceAdd, Nat.reduceSub, Nat.reduceMul, Nat.reduceLeDiff, Nat.reduceLT, Nat.reduceEqDiff, Nat.reduceBEq, Int.reduceAdd, Int.reduceSub, Int.reduceMul, Int.reduceNeg, Int.reduceToNat, Int.reduceLE, Int.reduceLT, Int.reduceEq, Int.reduceGE, Int.reduceGT, ↓reduceIte, reduceCtorEq, gm_pe, gm_pn, gc_put, gl_put, gs_put, exists_eq_left', exists_eq_left, gs_new, gc_ne, gc_nn, gl_ne, gl_nn, gm_ne, gm_nn, cd_J4_resize, iI_rt, t1, hv, n1, hnx, hjc]
        try simp only [iteP]
        refine ⟨by omega, by omega, by omega, by omega, ?_⟩
        refine excS rfl 347 10 _ _ _ _ _ _ ?_
        simp (disch := first | omega | (simp only [gs_new, gs_put] <;> omega)) only [exC, Nat.reduceAdd, Nat.reduceSub, Nat.reduceMul, Nat.reduceLeDiff, Nat.reduceLT, Nat.reduceEqDiff, Nat.reduceBEq, Int.reduceAdd, Int.reduceSub, Int.reduceMul, Int.reduceNeg, Int.reduceToNat, Int.reduceLE, Int.reduceLT, Int.reduceEq, Int.reduceGE, Int.reduceGT, ↓reduceIte, reduceCtorEq, gm_pe, gm_pn, gc_put, gl_put, gs_put, exists_eq_left', exists_eq_left, gs_new, gc_ne, gc_nn, gl_ne, gl_nn, gm_ne, gm_nn, cd_J4_resize, iI_rt, t2, n1, n2, ha, sg_node]
        try simp only [iteP]
        exact ⟨by omega, by omega, hG2⟩
      | cons e2 Rs =>
        have hnx : gm G' (ea e) 3 = .ref (ea e2) := hch.2.1
        refine excS rfl 200 17 _ _ _ _ _ _ ?_
        simp (disch := first | omega | (simp only [gs_new, gs_put] <;> omega)) only [exC, Nat.reduceAdd, Nat.reduceSub, Nat.reduceMul, Nat.reduceLeDiff, Nat.reduceLT, Nat.reduceEqDiff, Nat.reduceBEq, Int.reduceAdd, Int.reduceSub, Int.reduceMul, Int.reduceNeg, Int.reduceToNat, Int.reduceLE, Int.reduceLT, Int.reduceEq, Int.reduceGE, Int.reduceGT, ↓reduceIte, reduceCtorEq, gm_pe, gm_pn, gc_put, gl_put, gs_put, exists_eq_left', exists_eq_left, gs_new, gc_ne, gc_nn, gl_ne, gl_nn, gm_ne, gm_nn, cd_J4_resize, iI_rt, t1, hv, n1, hnx, hjc]
        try simp only [iteP]
        refine ⟨by omega, by omega, by omega, by omega, w_instNo (by rw [gc_put]; exact ⟨n1, q1020⟩) dJ4_resize_200 ?_⟩
        refine excS rfl 235 40 _ _ _ _ _ _ ?_
        simp (disch := first | omega | (simp only [gs_new, gs_put] <;> omega)) only [exC, Nat.reduceAdd, Nat.reduceSub, Nat.reduceMul, Nat.reduceLeDiff, Nat.reduceLT, Nat.reduceEqDiff, Nat.reduceBEq, Int.reduceAdd, Int.reduceSub, Int.reduceMul, Int.reduceNeg, Int.reduceToNat, Int.reduceLE, Int.reduceLT, Int.reduceEq, Int.reduceGE, Int.reduceGT, ↓reduceIte, reduceCtorEq, gm_pe, gm_pn, gc_put, gl_put, gs_put, exists_eq_left', exists_eq_left, gs_new, gc_ne, gc_nn, gl_ne, gl_nn, gm_ne, gm_nn, cd_J4_resize, iI_rt]
        try simp only [iteP]
        have hB0 : ∀ e' ∈ e :: e2 :: Rs, gc (gput G' tab j.toNat .null) (ea e') = 24 ∧ gm (gput G' tab j.toNat .null) (ea e') 0 = .int (iI (ek e')) ∧ inC (ek e') := fun e' he' => by
          obtain ⟨q1, q2, q3⟩ := hnB e' he'
          refine ⟨q1, ?_, q3⟩
          rw [gm_pn (fun z => by rw [z.1, t1] at q1; cases q1)]; exact q2
        have hch0 : chn (gput G' tab j.toNat .null) 3 (.ref (ea e)) ((e :: e2 :: Rs).map ea) := by
          rw [hv] at hch
          refine chn.congr _ _ (fun a ha => ?_) hch
          obtain ⟨e', he', rfl⟩ := List.mem_map.mp ha
          have q1 := (hnB e' he').1
          rw [gm_pn (fun z => by rw [z.1, t1] at q1; cases q1)]
        refine rs_split hc hB0 hndB (fun G2 hp hl1 hl2 => ?_) (e2 :: Rs) [] e _ rfl hpB.refl trivial trivial hch0 _
        have hnt2 : ∀ p : lE → Bool, tab' ∉ ((e :: e2 :: Rs).filter p).map ea := fun p hz => by
          obtain ⟨e', he', hq⟩ := List.mem_map.mp hz
          have := (hnB e' (List.mem_filter.mp he').1).1
          rw [hq, t2] at this; cases this
        have hnt3 : tab ∉ (e :: e2 :: Rs).map ea := fun hz => by
          obtain ⟨e', he', hq⟩ := List.mem_map.mp hz
          have := (hnB e' he').1
          rw [hq, t1] at this; cases this
        have hnt4 : tab' ∉ (e :: e2 :: Rs).map ea := fun hz => by
          obtain ⟨e', he', hq⟩ := List.mem_map.mp hz
          have := (hnB e' he').1
          rw [hq, t2] at this; cases this
        have hsubl : ∀ p : lE → Bool, ∀ a, a ∈ ((e :: e2 :: Rs).filter p).map ea → a ∈ (e :: e2 :: Rs).map ea := fun p a ha => by
          obtain ⟨e', he', hq⟩ := List.mem_map.mp ha
          exact List.mem_map.mpr ⟨e', (List.mem_filter.mp he').1, hq⟩
        have hdisj : ∀ a, a ∈ ((e :: e2 :: Rs).filter (loP c)).map ea → a ∉ ((e :: e2 :: Rs).filter (fun e => !loP c e)).map ea := fun a ha hb => by
          obtain ⟨x, hx, rfl⟩ := List.mem_map.mp ha
          obtain ⟨y, hy, hyx⟩ := List.mem_map.mp hb
          obtain ⟨x1, x2⟩ := List.mem_filter.mp hx
          obtain ⟨y1, y2⟩ := List.mem_filter.mp hy
          have hkk := nod_key (hnB y y1) (hnB x x1) hyx
          simp only [loP, hkk, Bool.not_eq_true', decide_eq_false_iff_not] at y2
          simp only [loP, decide_eq_true_eq] at x2
          exact y2 x2
        have ndf : ∀ p : lE → Bool, (((e :: e2 :: Rs).filter p).map ea).Nodup := fun p => hndB.sublist (List.Sublist.map ea List.filter_sublist)
        have tg2 : ∀ p : lE → Bool, ∀ x ∈ ((e :: e2 :: Rs).filter p).map ea, gc G2 x = 24 := fun p x hx => by
          obtain ⟨e', he', rfl⟩ := List.mem_map.mp hx
          rw [hp.2.1]
          exact (hnB e' (List.mem_filter.mp he').1).1
        have u1 : gc G2 tab' = 105 := by rw [hp.2.1]; exact t2
        have u2 : gl G2 tab' = (2 * c).toNat := by rw [hp.2.2.1]; exact l2
        have w1 : gm G2 tab' j.toNat = .null := by rw [hp.2.2.2 _ _ (Or.inl hnt4), gm_pn (fun z => htt z.1.symm)]; exact h7j.1
        have w2 : gm G2 tab' (j + c).toNat = .null := by rw [hp.2.2.2 _ _ (Or.inl hnt4), gm_pn (fun z => htt z.1.symm)]; exact h7j.2
        -- the end, when both lists are in their places
        have fin : ∀ Gb Gc v8 v9 v10 v11 v12 v13, endP G2 Gb tab' j.toNat (((e :: e2 :: Rs).filter (loP c)).map ea) → endP Gb Gc tab' (j + c).toNat (((e :: e2 :: Rs).filter (fun e => !loP c e)).map ea) → Wp X Y_J4_resize d Q k n Gc 347 (rsL m tab c thr nthr tab' j v8 v9 v10 v11 v12 v13) [] := by
          intro Gb Gc v8 v9 v10 v11 v12 v13 ⟨a1, a2, a3, a4, a5, a6⟩ ⟨b1, b2, b3, b4, b5, b6⟩
          refine ctr _ _ _ _ _ _ Gc (b1.trans (a1.trans hp.1)) (b2.trans (a2.trans hp.2.1)) (b3.trans (a3.trans hp.2.2.1)) (fun a i q1 q2 q3 => ?_) (fun i q => ?_) (fun i q1 q2 => ?_) ?_ b6
          · rw [b4 a i q2 (q3.imp (fun z w => z (hsubl _ a w)) id), a4 a i q2 (q3.imp (fun z w => z (hsubl _ a w)) id), hp.2.2.2 a i q3, gm_pn (fun z => q1 z.1)]
          · rw [b4 tab i htt (Or.inl (fun w => hnt3 (hsubl _ _ w))), a4 tab i htt (Or.inl (fun w => hnt3 (hsubl _ _ w))), hp.2.2.2 tab i (Or.inl hnt3), gm_pn (fun z => q z.2)]
          · rw [b5 i q2, a5 i q1, hp.2.2.2 tab' i (Or.inl hnt4), gm_pn (fun z => htt z.1.symm)]
          · rw [b5 _ (by omega)]
            refine chn.congr _ _ (fun a ha => ?_) a6
            refine b4 a 3 (fun z => hnt2 _ (by rw [← z]; exact ha)) (Or.inl (hdisj a ha))
        generalize hLL : ((e :: e2 :: Rs).filter (loP c)).map ea = L at hl1 fin hdisj
        generalize hHH : ((e :: e2 :: Rs).filter (fun e => !loP c e)).map ea = Hh at hl2 fin hdisj
        have ndL : L.Nodup := by rw [← hLL]; exact ndf _
        have ndH : Hh.Nodup := by rw [← hHH]; exact ndf _
        have tL : tab' ∉ L := by rw [← hLL]; exact hnt2 _
        have tH : tab' ∉ Hh := by rw [← hHH]; exact hnt2 _
        have gL : ∀ x ∈ L, gc G2 x = 24 := by rw [← hLL]; exact tg2 _
        have gH : ∀ x ∈ Hh, gc G2 x = 24 := by rw [← hHH]; exact tg2 _
        have hkl : ∀ l : List Nat, kill2 (some (lastv l)) = some (lastv l) := by intro l; unfold lastv; split <;> rfl
        have hkh : ∀ l : List Nat, kill2 (some (hdv l)) = some (hdv l) := by intro l; cases l <;> rfl
        have rh : ∀ l : List Nat, rfOK (hdv l) = True := fun l => eq_true hdv_ok
        have sg : ∀ (l : List Nat), (∀ x ∈ l, gc G2 x = 24) → (hdv l = .null ∨ ∃ b, hdv l = .ref b ∧ SG 4 (gc G2 b)) := fun l hl => by
          cases l with
          | nil => exact Or.inl rfl
          | cons a t => exact Or.inr ⟨a, rfl, by rw [hl a List.mem_cons_self, sg_node]; trivial⟩
        have sgL := sg L gL
        have sgH := sg Hh gH
        have jc : (0 ≤ j + c) ∧ (j + c).toNat < gl G2 tab' := by omega
        have jj : j.toNat < gl G2 tab' := by omega
        rcases List.eq_nil_or_concat L with rfl | ⟨L0, x, rfl⟩
        · rcases List.eq_nil_or_concat Hh with rfl | ⟨H0, y, rfl⟩
          · have := fin G2 G2 none none none none none none (endP_n w1) (endP_n w2)
            refine excS rfl 347 40 _ _ _ _ _ _ ?_
            simp (disch := first | omega | (simp only [gs_new, gs_put] <;> omega)) only [exC, Nat.reduceAdd, Nat.reduceSub, Nat.reduceMul, Nat.reduceLeDiff, Nat.reduceLT, Nat.reduceEqDiff, Nat.reduceBEq, Int.reduceAdd, Int.reduceSub, Int.reduceMul, Int.reduceNeg, Int.reduceToNat, Int.reduceLE, Int.reduceLT, Int.reduceEq, Int.reduceGE, Int.reduceGT, ↓reduceIte, reduceCtorEq, gm_pe, gm_pn, gc_put, gl_put, gs_put, exists_eq_left', exists_eq_left, gs_new, gc_ne, gc_nn, gl_ne, gl_nn, gm_ne, gm_nn, cd_J4_resize, iI_rt, lastv_n, hdv_n]
            try simp only [iteP]
            exact this.wk' _ (by simp [wkL])
          · rw [List.concat_eq_append] at *
            have := fin G2 _ none none none none none none (endP_n w1) (endP_s (idx := (j + c).toNat) hl2 ndH tH)
            have gy := gH y (by simp)
            rw [lastv_s]
            refine excS rfl 347 40 _ _ _ _ _ _ ?_
            simp (disch := first | omega | (simp only [gs_new, gs_put] <;> omega)) only [exC, Nat.reduceAdd, Nat.reduceSub, Nat.reduceMul, Nat.reduceLeDiff, Nat.reduceLT, Nat.reduceEqDiff, Nat.reduceBEq, Int.reduceAdd, Int.reduceSub, Int.reduceMul, Int.reduceNeg, Int.reduceToNat, Int.reduceLE, Int.reduceLT, Int.reduceEq, Int.reduceGE, Int.reduceGT, ↓reduceIte, reduceCtorEq, gm_pe, gm_pn, gc_put, gl_put, gs_put, exists_eq_left', exists_eq_left, gs_new, gc_ne, gc_nn, gl_ne, gl_nn, gm_ne, gm_nn, cd_J4_resize, iI_rt, lastv_n, hdv_n, gy, u1, rh, hkh]
            try simp only [iteP]
            exact ⟨jc.1, jc.2, sgH, this.wk' _ (by simp [wkL])⟩
        · rw [List.concat_eq_append] at *
          have gx := gL x (by simp)
          rcases List.eq_nil_or_concat Hh with rfl | ⟨H0, y, rfl⟩
          · have := fin _ _ none none none none none none (endP_s hl1 ndL tL) (endP_n (by rw [gm_pn (by omega), gm_pn (fun z => tL (by rw [z.1]; simp))]; exact w2))
            rw [lastv_s]
            refine excS rfl 347 40 _ _ _ _ _ _ ?_
            simp (disch := first | omega | (simp only [gs_new, gs_put] <;> omega)) only [exC, Nat.reduceAdd, Nat.reduceSub, Nat.reduceMul, Nat.reduceLeDiff, Nat.reduceLT, Nat.reduceEqDiff, Nat.reduceBEq, Int.reduceAdd, Int.reduceSub, Int.reduceMul, Int.reduceNeg, Int.reduceToNat, Int.reduceLE, Int.reduceLT, Int.reduceEq, Int.reduceGE, Int.reduceGT, ↓reduceIte, reduceCtorEq, gm_pe, gm_pn, gc_put, gl_put, gs_put, exists_eq_left', exists_eq_left, gs_new, gc_ne, gc_nn, gl_ne, gl_nn, gm_ne, gm_nn, cd_J4_resize, iI_rt, lastv_n, hdv_n, gx, u1, rh, hkh]
            try simp only [iteP]
            exact ⟨j0, jj, sgL, this.wk' _ (by simp [wkL])⟩
          · rw [List.concat_eq_append] at *
            have gy := gH y (by simp)
            have hxH : x ∉ H0 ++ [y] := hdisj x (by simp)
            have hl2' : lnk (gput (gput G2 x 3 .null) tab' j.toNat (hdv (L0 ++ [x]))) 3 (H0 ++ [y]) := lnk.congr _ (fun a ha => by
              rw [gm_pn (fun z => tH (by rw [← z.1]; exact ha)), gm_pn (fun z => hxH (by rw [← z.1]; exact ha))]) hl2
            have := fin _ _ none none none none none none (endP_s hl1 ndL tL) (endP_s (idx := (j + c).toNat) hl2' ndH tH)
            rw [lastv_s, lastv_s]
            refine excS rfl 347 40 _ _ _ _ _ _ ?_
            simp (disch := first | omega | (simp only [gs_new, gs_put] <;> omega)) only [exC, Nat.reduceAdd, Nat.reduceSub, Nat.reduceMul, Nat.reduceLeDiff, Nat.reduceLT, Nat.reduceEqDiff, Nat.reduceBEq, Int.reduceAdd, Int.reduceSub, Int.reduceMul, Int.reduceNeg, Int.reduceToNat, Int.reduceLE, Int.reduceLT, Int.reduceEq, Int.reduceGE, Int.reduceGT, ↓reduceIte, reduceCtorEq, gm_pe, gm_pn, gc_put, gl_put, gs_put, exists_eq_left', exists_eq_left, gs_new, gc_ne, gc_nn, gl_ne, gl_nn, gm_ne, gm_nn, cd_J4_resize, iI_rt, lastv_n, hdv_n, gx, gy, u1, rh, hkh]
            try simp only [iteP]
            exact ⟨j0, jj, sgL, jc.1, jc.2, sgH, this.wk' _ (by simp [wkL])⟩
  · intro G' hI u8 u9 u10 u11 u12 u13
    have := kk G' hI
    refine exS rfl 8 _ _ _ _ _ _ ?_
    simp (disch := first | omega | (simp only [gs_new, gs_put] <;> omega)) only [exB, Nat.reduceAdd, Nat.reduceSub, Nat.reduceMul, Nat.reduceLeDiff, Nat.reduceLT, Nat.reduceEqDiff, Nat.reduceBEq, Int.reduceAdd, Int.reduceSub, Int.reduceMul, Int.reduceNeg, Int.reduceToNat, Int.reduceLE, Int.reduceLT, Int.reduceEq, Int.reduceGE, Int.reduceGT, ↓reduceIte, reduceCtorEq, gm_pe, gm_pn, gc_put, gl_put, gs_put, exists_eq_left', exists_eq_left, gs_new, gc_ne, gc_nn, gl_ne, gl_nn, gm_ne, gm_nn, cd_J4_resize, iI_rt]
    exact ⟨fun _ => this, fun q => absurd (Int.le_refl c) q⟩
end
