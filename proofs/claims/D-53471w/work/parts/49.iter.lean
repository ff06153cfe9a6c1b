/-! LINKED HASH MAPS AND SETS: asked and gone through -/
set_option maxRecDepth 100000
set_option maxHeartbeats 1000000
theorem ff_hd {C : String} {l : List Nat} : fits (.object C) (hdv l) = true := by cases l <;> rfl
theorem ff_rf {C : String} {v : Value} (h : rfOK v) : fits (.object C) v = true := by
  cases v with
  | ref a => rfl
  | null => rfl
  | _ => exact h.elim
def evv (o : Option lE) : Value := match o with
  | some e => ev e
  | none => .null
/-- an iterator over the nodes F of a map m that are still to come -/
def It (G : gH) (it m : Nat) (F : List Nat) : Prop := it < gs G ∧ gc G it = 21 ∧ gm G it 0 = hdv F ∧ gm G it 2 = gm G m 3 ∧ gm G it 3 = .int (iI 0) ∧ gm G it 4 = .ref m
/-- a linked hash set at s with its map m -/
def HS (G : gH) (S : Nat → Prop) (s m : Nat) (c : Int) (E : List lE) : Prop := (S s ∧ s < gs G ∧ gc G s = 19 ∧ gm G s 0 = .ref m) ∧ LM G S m c E
theorem HS.fr {G G' : gH} {S T S' : Nat → Prop} {s m : Nat} {c : Int} {E : List lE} (h : HS G S s m c E) (hF : Fr T G G') (hd : ∀ a, a < gs G → S a → ¬ T a) (hs : ∀ a, a < gs G → S a → S' a) : HS G' S' s m c E := by
  obtain ⟨⟨a1, a2, a3, a4⟩, h⟩ := h
  have := hF.1
  exact ⟨⟨hs _ a2 a1, by omega, by rw [hF.c a2]; exact a3, by rw [hF.m a2 (hd _ a2 a1)]; exact a4⟩, h.fr hF hd hs⟩
abbrev KS (G : gH) (m : Nat) : Prop := gm G m 6 = .null ∨ ∃ ks, gm G m 6 = .ref ks ∧ ks < gs G ∧ gc G ks = 22 ∧ gm G ks 0 = .int (iI 0) ∧ gm G ks 1 = .ref m
theorem LM.remake {G G' : gH} {S : Nat → Prop} {m : Nat} {c : Int} {E : List lE} (h : LM G S m c E) (hz : gs G' = gs G) (hc : gc G' = gc G) (hl : gl G' = gl G) (ho : ∀ a, a ≠ m → gm G' a = gm G a) (hf : ∀ j, j ≠ 6 → j ≠ 3 → gm G' m j = gm G m j) (h3 : ∃ mc, gm G' m 3 = .int mc) (h6 : KS G' m) : LM G' S m c E := by
  obtain ⟨⟨a1, a2, a3⟩, a4, a5, a6, a7, a8, a9, b1, b2, b3, b4, b5⟩ := h
  have hnm : ∀ a ∈ E.map ea, a ≠ m := fun a ha q => by
    obtain ⟨e, he, rfl⟩ := List.mem_map.mp ha
    have := (b1 e he).2.2.1
    rw [q, a3] at this; cases this
  refine ⟨⟨a1, by omega, by rw [hc]; exact a3⟩, by rw [hf 2 (by decide) (by decide)]; exact a4, h3, by rw [hf 5 (by decide) (by decide)]; exact a6, h6, by rw [hf 10 (by decide) (by decide)]; exact a8, by rw [hf 11 (by decide) (by decide)]; exact a9, fun e he => ?_, b2, ?_, ?_, ?_⟩
  · obtain ⟨n1, n2, n3, n4, ⟨kc, n5, n7⟩, n8, n9⟩ := b1 e he
    have hk : kc ≠ m := ne_tag n7.2.1 a3 (by decide)
    have hE := ho _ (hnm _ (List.mem_map.mpr ⟨e, he, rfl⟩))
    exact ⟨n1, by omega, by rw [hc]; exact n3, by rw [hE]; exact n4, ⟨kc, by rw [hE]; exact n5, n7.keep (by omega) (by rw [hc]) (ho kc hk)⟩, by rw [hE]; exact n8, n9⟩
  · rw [hf 8 (by decide) (by decide)]; exact chn.congr _ _ (fun a ha => by rw [ho a (hnm a ha)]) b3
  · rw [hf 9 (by decide) (by decide)]; exact chn.congr _ _ (fun a ha => by rw [ho a (hnm a (List.mem_reverse.mp ha))]) b4
  · unfold tabOK
    rw [hf 0 (by decide) (by decide), hf 4 (by decide) (by decide), hz, hc, hl]
    refine b5.imp id ?_
    rintro ⟨q1, q2, q3, tab, q4, q5, q6, q7, q8, q9⟩
    refine ⟨q1, q2, q3, tab, q4, q5, q6, q7, q8, fun b b0 b1' => ?_⟩
    rw [ho tab (ne_tag q7 a3 (by decide))]
    refine chn.congr _ _ (fun a ha => ?_) (q9 b b0 b1')
    obtain ⟨e, he, rfl⟩ := List.mem_map.mp ha
    have he' : e ∈ E := (List.mem_filter.mp he).1
    rw [ho _ (hnm _ (List.mem_map.mpr ⟨e, he', rfl⟩))]
section
variable {X : gX} {G : gH} {S : Nat → Prop} {s m : Nat} {c : Int} {E : List lE}
theorem h_contains {kc : Nat} {z : Int} (hL : LM G S m c E) (hk : isCell G kc z) : Tri X 4 Y_J4_containsKey [.ref m, .ref kc] 0 0 G (fun r G' => r = some (.int (iI (if z ∈ E.map ek then 1 else 0))) ∧ G' = G) := by
  have hm := hL.1.2.2
  refine Tri.of (by decide +kernel) (Nat.le_of_ble_eq_true rfl) ?_
  refine exS rfl 4 _ _ _ _ _ _ ?_
  simp (disch := first | omega | (simp only [gs_new, gs_put] <;> omega)) only [exB, Nat.reduceAdd, Nat.reduceSub, Nat.reduceMul, Nat.reduceLeDiff, Nat.reduceLT, Nat.reduceEqDiff, Nat.reduceBEq, Int.reduceAdd, Int.reduceSub, Int.reduceMul, Int.reduceNeg, Int.reduceToNat, Int.reduceLE, Int.reduceLT, Int.reduceEq, Int.reduceGE, Int.reduceGT, ↓reduceIte, reduceCtorEq, gm_pe, gm_pn, gc_put, gl_put, gs_put, exists_eq_left', exists_eq_left, gs_new, gc_ne, gc_nn, gl_ne, gl_nn, gm_ne, gm_nn, cd_J4_containsKey, hm]
  refine gCall.of (h_getNode hL hk) (by decide) (by first | omega | decide) (by first | omega | decide) ?_
  rintro r G' ⟨rfl, rfl⟩
  cases h : lkp E z with
  | none =>
    rw [if_neg (lkp_none.mp h)]
    refine exS rfl 4 _ _ _ _ _ _ ?_
    simp (disch := first | omega | (simp only [gs_new, gs_put] <;> omega)) only [exB, Nat.reduceAdd, Nat.reduceSub, Nat.reduceMul, Nat.reduceLeDiff, Nat.reduceLT, Nat.reduceEqDiff, Nat.reduceBEq, Int.reduceAdd, Int.reduceSub, Int.reduceMul, Int.reduceNeg, Int.reduceToNat, Int.reduceLE, Int.reduceLT, Int.reduceEq, Int.reduceGE, Int.reduceGT, ↓reduceIte, reduceCtorEq, gm_pe, gm_pn, gc_put, gl_put, gs_put, exists_eq_left', exists_eq_left, gs_new, gc_ne, gc_nn, gl_ne, gl_nn, gm_ne, gm_nn, cd_J4_containsKey, ndv]
  | some e =>
    have hz : z ∈ E.map ek := by
      obtain ⟨h1, h2⟩ := lkp_mem h
      exact List.mem_map.mpr ⟨e, h1, h2⟩
    rw [if_pos hz]
    refine exS rfl 5 _ _ _ _ _ _ ?_
    simp (disch := first | omega | (simp only [gs_new, gs_put] <;> omega)) only [exB, Nat.reduceAdd, Nat.reduceSub, Nat.reduceMul, Nat.reduceLeDiff, Nat.reduceLT, Nat.reduceEqDiff, Nat.reduceBEq, Int.reduceAdd, Int.reduceSub, Int.reduceMul, Int.reduceNeg, Int.reduceToNat, Int.reduceLE, Int.reduceLT, Int.reduceEq, Int.reduceGE, Int.reduceGT, ↓reduceIte, reduceCtorEq, gm_pe, gm_pn, gc_put, gl_put, gs_put, exists_eq_left', exists_eq_left, gs_new, gc_ne, gc_nn, gl_ne, gl_nn, gm_ne, gm_nn, cd_J4_containsKey, ndv]
theorem h_get {kc : Nat} {z : Int} (hL : LM G S m c E) (hk : isCell G kc z) : Tri X 4 Y_J5_get [.ref m, .ref kc] 0 0 G (fun r G' => r = some (evv (lkp E z)) ∧ G' = G) := by
  have hm := hL.1.2.2
  have ha := hL.2.2.2.2.2.1
  refine Tri.of (by decide +kernel) (Nat.le_of_ble_eq_true rfl) ?_
  refine exS rfl 4 _ _ _ _ _ _ ?_
  simp (disch := first | omega | (simp only [gs_new, gs_put] <;> omega)) only [exB, Nat.reduceAdd, Nat.reduceSub, Nat.reduceMul, Nat.reduceLeDiff, Nat.reduceLT, Nat.reduceEqDiff, Nat.reduceBEq, Int.reduceAdd, Int.reduceSub, Int.reduceMul, Int.reduceNeg, Int.reduceToNat, Int.reduceLE, Int.reduceLT, Int.reduceEq, Int.reduceGE, Int.reduceGT, ↓reduceIte, reduceCtorEq, gm_pe, gm_pn, gc_put, gl_put, gs_put, exists_eq_left', exists_eq_left, gs_new, gc_ne, gc_nn, gl_ne, gl_nn, gm_ne, gm_nn, cd_J5_get, hm]
  refine gCall.of (h_getNode hL hk) (by decide) (by first | omega | decide) (by first | omega | decide) ?_
  rintro r G' ⟨rfl, rfl⟩
  cases h : lkp E z with
  | none =>
    refine exS rfl 6 _ _ _ _ _ _ ?_
    simp (disch := first | omega | (simp only [gs_new, gs_put] <;> omega)) only [exB, Nat.reduceAdd, Nat.reduceSub, Nat.reduceMul, Nat.reduceLeDiff, Nat.reduceLT, Nat.reduceEqDiff, Nat.reduceBEq, Int.reduceAdd, Int.reduceSub, Int.reduceMul, Int.reduceNeg, Int.reduceToNat, Int.reduceLE, Int.reduceLT, Int.reduceEq, Int.reduceGE, Int.reduceGT, ↓reduceIte, reduceCtorEq, gm_pe, gm_pn, gc_put, gl_put, gs_put, exists_eq_left', exists_eq_left, gs_new, gc_ne, gc_nn, gl_ne, gl_nn, gm_ne, gm_nn, cd_J5_get, ndv, evv]
  | some e =>
    obtain ⟨n1, n2, n3, n4, -, n5, n6⟩ := hL.node e (lkp_mem h).1
    refine exS rfl 12 _ _ _ _ _ _ ?_
    simp (disch := first | omega | (simp only [gs_new, gs_put] <;> omega)) only [exB, Nat.reduceAdd, Nat.reduceSub, Nat.reduceMul, Nat.reduceLeDiff, Nat.reduceLT, Nat.reduceEqDiff, Nat.reduceBEq, Int.reduceAdd, Int.reduceSub, Int.reduceMul, Int.reduceNeg, Int.reduceToNat, Int.reduceLE, Int.reduceLT, Int.reduceEq, Int.reduceGE, Int.reduceGT, ↓reduceIte, reduceCtorEq, gm_pe, gm_pn, gc_put, gl_put, gs_put, exists_eq_left', exists_eq_left, gs_new, gc_ne, gc_nn, gl_ne, gl_nn, gm_ne, gm_nn, cd_J5_get, ndv, evv, hm, ha, iI_rt, n3, n5]
    exact n6
theorem h_size (hL : LM G S m c E) : Tri X 1 Y_J4_size [.ref m] 0 0 G (fun r G' => r = some (.int (iI E.length)) ∧ G' = G) := by
  refine Tri.of (by decide +kernel) (Nat.le_of_ble_eq_true rfl) ?_
  refine exS rfl 4 _ _ _ _ _ _ ?_
  simp (disch := first | omega | (simp only [gs_new, gs_put] <;> omega)) only [exB, Nat.reduceAdd, Nat.reduceSub, Nat.reduceMul, Nat.reduceLeDiff, Nat.reduceLT, Nat.reduceEqDiff, Nat.reduceBEq, Int.reduceAdd, Int.reduceSub, Int.reduceMul, Int.reduceNeg, Int.reduceToNat, Int.reduceLE, Int.reduceLT, Int.reduceEq, Int.reduceGE, Int.reduceGT, ↓reduceIte, reduceCtorEq, gm_pe, gm_pn, gc_put, gl_put, gs_put, exists_eq_left', exists_eq_left, gs_new, gc_ne, gc_nn, gl_ne, gl_nn, gm_ne, gm_nn, cd_J4_size, hL.1.2.2, hL.2.1]
theorem s_size (hL : HS G S s m c E) : Tri X 2 Y_J14_size [.ref s] 0 0 G (fun r G' => r = some (.int (iI E.length)) ∧ G' = G) := by
  refine Tri.of (by decide +kernel) (Nat.le_of_ble_eq_true rfl) ?_
  refine exS rfl 4 _ _ _ _ _ _ ?_
  simp (disch := first | omega | (simp only [gs_new, gs_put] <;> omega)) only [exB, Nat.reduceAdd, Nat.reduceSub, Nat.reduceMul, Nat.reduceLeDiff, Nat.reduceLT, Nat.reduceEqDiff, Nat.reduceBEq, Int.reduceAdd, Int.reduceSub, Int.reduceMul, Int.reduceNeg, Int.reduceToNat, Int.reduceLE, Int.reduceLT, Int.reduceEq, Int.reduceGE, Int.reduceGT, ↓reduceIte, reduceCtorEq, gm_pe, gm_pn, gc_put, gl_put, gs_put, exists_eq_left', exists_eq_left, gs_new, gc_ne, gc_nn, gl_ne, gl_nn, gm_ne, gm_nn, cd_J14_size, hL.1.2.2.1, hL.1.2.2.2, hL.2.1.2.2]
  refine gCall.of (h_size hL.2) (by decide) (by first | omega | decide) (by first | omega | decide) ?_
  rintro r G' ⟨rfl, rfl⟩
  refine exS rfl 4 _ _ _ _ _ _ ?_
  simp (disch := first | omega | (simp only [gs_new, gs_put] <;> omega)) only [exB, Nat.reduceAdd, Nat.reduceSub, Nat.reduceMul, Nat.reduceLeDiff, Nat.reduceLT, Nat.reduceEqDiff, Nat.reduceBEq, Int.reduceAdd, Int.reduceSub, Int.reduceMul, Int.reduceNeg, Int.reduceToNat, Int.reduceLE, Int.reduceLT, Int.reduceEq, Int.reduceGE, Int.reduceGT, ↓reduceIte, reduceCtorEq, gm_pe, gm_pn, gc_put, gl_put, gs_put, exists_eq_left', exists_eq_left, gs_new, gc_ne, gc_nn, gl_ne, gl_nn, gm_ne, gm_nn, cd_J14_size]
theorem s_contains {kc : Nat} {z : Int} (hL : HS G S s m c E) (hk : isCell G kc z) : Tri X 5 Y_J14_contains [.ref s, .ref kc] 0 0 G (fun r G' => r = some (.int (iI (if z ∈ E.map ek then 1 else 0))) ∧ G' = G) := by
  refine Tri.of (by decide +kernel) (Nat.le_of_ble_eq_true rfl) ?_
  refine exS rfl 4 _ _ _ _ _ _ ?_
  simp (disch := first | omega | (simp only [gs_new, gs_put] <;> omega)) only [exB, Nat.reduceAdd, Nat.reduceSub, Nat.reduceMul, Nat.reduceLeDiff, Nat.reduceLT, Nat.reduceEqDiff, Nat.reduceBEq, Int.reduceAdd, Int.reduceSub, Int.reduceMul, Int.reduceNeg, Int.reduceToNat, Int.reduceLE, Int.reduceLT, Int.reduceEq, Int.reduceGE, Int.reduceGT, ↓reduceIte, reduceCtorEq, gm_pe, gm_pn, gc_put, gl_put, gs_put, exists_eq_left', exists_eq_left, gs_new, gc_ne, gc_nn, gl_ne, gl_nn, gm_ne, gm_nn, cd_J14_contains, hL.1.2.2.1, hL.1.2.2.2, hL.2.1.2.2]
  refine gCall.of (h_contains hL.2 hk) (by decide) (by first | omega | decide) (by first | omega | decide) ?_
  rintro r G' ⟨rfl, rfl⟩
  refine exS rfl 4 _ _ _ _ _ _ ?_
  simp (disch := first | omega | (simp only [gs_new, gs_put] <;> omega)) only [exB, Nat.reduceAdd, Nat.reduceSub, Nat.reduceMul, Nat.reduceLeDiff, Nat.reduceLT, Nat.reduceEqDiff, Nat.reduceBEq, Int.reduceAdd, Int.reduceSub, Int.reduceMul, Int.reduceNeg, Int.reduceToNat, Int.reduceLE, Int.reduceLT, Int.reduceEq, Int.reduceGE, Int.reduceGT, ↓reduceIte, reduceCtorEq, gm_pe, gm_pn, gc_put, gl_put, gs_put, exists_eq_left', exists_eq_left, gs_new, gc_ne, gc_nn, gl_ne, gl_nn, gm_ne, gm_nn, cd_J14_contains, nf_b]
/-- what an iterator's constructor leaves -/
def itG (G : gH) (it m : Nat) : gH := gput (gput (gput (gput (gput G it 4 (.ref m)) it 3 (.int (iI 0))) it 0 (gm G m 8)) it 2 (gm G m 3)) it 1 .null
theorem i_init0 {it : Nat} {l : List Nat} {mc : Int32} (hi : gc G it = 21) (hm : gc G m = 13) (h8 : gm G m 8 = hdv l) (h3 : gm G m 3 = .int mc) : Tri X 2 Y_J22_init [.ref it, .ref m, .int (iI 0)] 0 0 G (fun r G' => r = none ∧ G' = itG G it m) := by
  have hne : ¬ m = it := fun q => by rw [q, hi] at hm; cases hm
  refine Tri.of (by decide +kernel) (Nat.le_of_ble_eq_true rfl) ?_
  refine excS rfl 6 8 _ _ _ _ _ _ ?_
  simp (disch := first | omega | (simp only [gs_new, gs_put] <;> omega)) only [exB, Nat.reduceAdd, Nat.reduceSub, Nat.reduceMul, Nat.reduceLeDiff, Nat.reduceLT, Nat.reduceEqDiff, Nat.reduceBEq, Int.reduceAdd, Int.reduceSub, Int.reduceMul, Int.reduceNeg, Int.reduceToNat, Int.reduceLE, Int.reduceLT, Int.reduceEq, Int.reduceGE, Int.reduceGT, ↓reduceIte, reduceCtorEq, gm_pe, gm_pn, gc_put, gl_put, gs_put, exists_eq_left', exists_eq_left, gs_new, gc_ne, gc_nn, gl_ne, gl_nn, gm_ne, gm_nn, cd_J22_init, hi, (show (my Y_J22_init).name = "<init>" from rfl)]
  refine w_objInit q772 dJ22_init_6 (by decide) (by decide) ?_
  refine exS rfl 30 _ _ _ _ _ _ ?_
  simp (disch := first | omega | (simp only [gs_new, gs_put] <;> omega)) only [exB, Nat.reduceAdd, Nat.reduceSub, Nat.reduceMul, Nat.reduceLeDiff, Nat.reduceLT, Nat.reduceEqDiff, Nat.reduceBEq, Int.reduceAdd, Int.reduceSub, Int.reduceMul, Int.reduceNeg, Int.reduceToNat, Int.reduceLE, Int.reduceLT, Int.reduceEq, Int.reduceGE, Int.reduceGT, ↓reduceIte, reduceCtorEq, gm_pe, gm_pn, gc_put, gl_put, gs_put, exists_eq_left', exists_eq_left, gs_new, gc_ne, gc_nn, gl_ne, gl_nn, gm_ne, gm_nn, cd_J22_init, (show (my Y_J22_init).name = "<init>" from rfl), hi, hm, iI_rt, gm_put, hne, false_and, if_false, h8, h3, ff_hd]
  unfold itG
  rw [h8, h3]
theorem i_init1 {it : Nat} {l : List Nat} {mc : Int32} (hi : gc G it = 21) (hm : gc G m = 13) (h8 : gm G m 8 = hdv l) (h3 : gm G m 3 = .int mc) : Tri X 3 Y_J23_init [.ref it, .ref m, .int (iI 0)] 0 0 G (fun r G' => r = none ∧ G' = itG G it m) := by
  refine Tri.of (by decide +kernel) (Nat.le_of_ble_eq_true rfl) ?_
  refine exS rfl 6 _ _ _ _ _ _ ?_
  simp (disch := first | omega | (simp only [gs_new, gs_put] <;> omega)) only [exB, Nat.reduceAdd, Nat.reduceSub, Nat.reduceMul, Nat.reduceLeDiff, Nat.reduceLT, Nat.reduceEqDiff, Nat.reduceBEq, Int.reduceAdd, Int.reduceSub, Int.reduceMul, Int.reduceNeg, Int.reduceToNat, Int.reduceLE, Int.reduceLT, Int.reduceEq, Int.reduceGE, Int.reduceGT, ↓reduceIte, reduceCtorEq, gm_pe, gm_pn, gc_put, gl_put, gs_put, exists_eq_left', exists_eq_left, gs_new, gc_ne, gc_nn, gl_ne, gl_nn, gm_ne, gm_nn, cd_J23_init, hi]
  refine gCall.of (i_init0 hi hm h8 h3) (by decide) (by first | omega | decide) (by first | omega | decide) ?_
  rintro r G' ⟨rfl, rfl⟩
  refine exS rfl 4 _ _ _ _ _ _ ?_
  simp (disch := first | omega | (simp only [gs_new, gs_put] <;> omega)) only [exB, Nat.reduceAdd, Nat.reduceSub, Nat.reduceMul, Nat.reduceLeDiff, Nat.reduceLT, Nat.reduceEqDiff, Nat.reduceBEq, Int.reduceAdd, Int.reduceSub, Int.reduceMul, Int.reduceNeg, Int.reduceToNat, Int.reduceLE, Int.reduceLT, Int.reduceEq, Int.reduceGE, Int.reduceGT, ↓reduceIte, reduceCtorEq, gm_pe, gm_pn, gc_put, gl_put, gs_put, exists_eq_left', exists_eq_left, gs_new, gc_ne, gc_nn, gl_ne, gl_nn, gm_ne, gm_nn, cd_J23_init]
theorem i_hasNext {it : Nat} {F : List Nat} (hI : It G it m F) : Tri X 1 Y_J22_hasNext [.ref it] 0 0 G (fun r G' => r = some (.int (iI (if F = [] then 0 else 1))) ∧ G' = G) := by
  obtain ⟨h1, h2, h3, h4⟩ := hI
  cases F with
  | nil =>
    refine Tri.of (by decide +kernel) (Nat.le_of_ble_eq_true rfl) ?_
    refine exS rfl 5 _ _ _ _ _ _ ?_
    simp (disch := first | omega | (simp only [gs_new, gs_put] <;> omega)) only [exB, Nat.reduceAdd, Nat.reduceSub, Nat.reduceMul, Nat.reduceLeDiff, Nat.reduceLT, Nat.reduceEqDiff, Nat.reduceBEq, Int.reduceAdd, Int.reduceSub, Int.reduceMul, Int.reduceNeg, Int.reduceToNat, Int.reduceLE, Int.reduceLT, Int.reduceEq, Int.reduceGE, Int.reduceGT, ↓reduceIte, reduceCtorEq, gm_pe, gm_pn, gc_put, gl_put, gs_put, exists_eq_left', exists_eq_left, gs_new, gc_ne, gc_nn, gl_ne, gl_nn, gm_ne, gm_nn, cd_J22_hasNext, h2, h3, hdv]
  | cons a t =>
    refine Tri.of (by decide +kernel) (Nat.le_of_ble_eq_true rfl) ?_
    refine exS rfl 6 _ _ _ _ _ _ ?_
    simp (disch := first | omega | (simp only [gs_new, gs_put] <;> omega)) only [exB, Nat.reduceAdd, Nat.reduceSub, Nat.reduceMul, Nat.reduceLeDiff, Nat.reduceLT, Nat.reduceEqDiff, Nat.reduceBEq, Int.reduceAdd, Int.reduceSub, Int.reduceMul, Int.reduceNeg, Int.reduceToNat, Int.reduceLE, Int.reduceLT, Int.reduceEq, Int.reduceGE, Int.reduceGT, ↓reduceIte, reduceCtorEq, gm_pe, gm_pn, gc_put, gl_put, gs_put, exists_eq_left', exists_eq_left, gs_new, gc_ne, gc_nn, gl_ne, gl_nn, gm_ne, gm_nn, cd_J22_hasNext, h2, h3, hdv]
theorem i_nextNode {it a : Nat} {F : List Nat} {mc : Int32} (hI : It G it m (a :: F)) (hm : gc G m = 13) (h3 : gm G m 3 = .int mc) (ha : gc G a = 24) (h5 : gm G a 5 = hdv F) : Tri X 1 Y_J22_nextNode [.ref it] 0 0 G (fun r G' => r = some (.ref a) ∧ G' = gput (gput G it 1 (.ref a)) it 0 (hdv F)) := by
  obtain ⟨i1, i2, i3, i4, i5, i6⟩ := hI
  rw [h3] at i4
  have i3' : gm G it 0 = .ref a := i3
  have e1 : ¬ m = it := fun q => by rw [q, i2] at hm; cases hm
  have e2 : ¬ a = it := fun q => by rw [q, i2] at ha; cases ha
  refine Tri.of (by decide +kernel) (Nat.le_of_ble_eq_true rfl) ?_
  refine exS rfl 40 _ _ _ _ _ _ ?_
  simp (disch := first | omega | (simp only [gs_new, gs_put] <;> omega)) only [exB, Nat.reduceAdd, Nat.reduceSub, Nat.reduceMul, Nat.reduceLeDiff, Nat.reduceLT, Nat.reduceEqDiff, Nat.reduceBEq, Int.reduceAdd, Int.reduceSub, Int.reduceMul, Int.reduceNeg, Int.reduceToNat, Int.reduceLE, Int.reduceLT, Int.reduceEq, Int.reduceGE, Int.reduceGT, ↓reduceIte, reduceCtorEq, gm_pe, gm_pn, gc_put, gl_put, gs_put, exists_eq_left', exists_eq_left, gs_new, gc_ne, gc_nn, gl_ne, gl_nn, gm_ne, gm_nn, cd_J22_nextNode, i2, i3', i4, i5, i6, hm, h3, ha, h5, iI_rt, gm_put, e1, e2, false_and, if_false, ff_hd]
theorem i_getKey {a : Nat} (ha : gc G a = 24) (hr : rfOK (gm G a 1)) : Tri X 1 Y_J31_getKey [.ref a] 0 0 G (fun r G' => r = some (gm G a 1) ∧ G' = G) := by
  refine Tri.of (by decide +kernel) (Nat.le_of_ble_eq_true rfl) ?_
  refine exS rfl 4 _ _ _ _ _ _ ?_
  simp (disch := first | omega | (simp only [gs_new, gs_put] <;> omega)) only [exB, Nat.reduceAdd, Nat.reduceSub, Nat.reduceMul, Nat.reduceLeDiff, Nat.reduceLT, Nat.reduceEqDiff, Nat.reduceBEq, Int.reduceAdd, Int.reduceSub, Int.reduceMul, Int.reduceNeg, Int.reduceToNat, Int.reduceLE, Int.reduceLT, Int.reduceEq, Int.reduceGE, Int.reduceGT, ↓reduceIte, reduceCtorEq, gm_pe, gm_pn, gc_put, gl_put, gs_put, exists_eq_left', exists_eq_left, gs_new, gc_ne, gc_nn, gl_ne, gl_nn, gm_ne, gm_nn, cd_J31_getKey, ha]
  exact hr
theorem i_next0 {it a : Nat} {F : List Nat} {mc : Int32} (hI : It G it m (a :: F)) (hm : gc G m = 13) (h3 : gm G m 3 = .int mc) (ha : gc G a = 24) (h5 : gm G a 5 = hdv F) (hr : rfOK (gm G a 1)) : Tri X 2 Y_J23_next [.ref it] 0 0 G (fun r G' => r = some (gm G a 1) ∧ G' = gput (gput G it 1 (.ref a)) it 0 (hdv F)) := by
  have hit := hI.2.1
  have e2 : ¬ a = it := fun q => by rw [q, hit] at ha; cases ha
  refine Tri.of (by decide +kernel) (Nat.le_of_ble_eq_true rfl) ?_
  refine exS rfl 3 _ _ _ _ _ _ ?_
  simp (disch := first | omega | (simp only [gs_new, gs_put] <;> omega)) only [exB, Nat.reduceAdd, Nat.reduceSub, Nat.reduceMul, Nat.reduceLeDiff, Nat.reduceLT, Nat.reduceEqDiff, Nat.reduceBEq, Int.reduceAdd, Int.reduceSub, Int.reduceMul, Int.reduceNeg, Int.reduceToNat, Int.reduceLE, Int.reduceLT, Int.reduceEq, Int.reduceGE, Int.reduceGT, ↓reduceIte, reduceCtorEq, gm_pe, gm_pn, gc_put, gl_put, gs_put, exists_eq_left', exists_eq_left, gs_new, gc_ne, gc_nn, gl_ne, gl_nn, gm_ne, gm_nn, cd_J23_next, hit]
  refine gCall.of (i_nextNode hI hm h3 ha h5) (by decide) (by first | omega | decide) (by first | omega | decide) ?_
  rintro r G' ⟨rfl, rfl⟩
  refine exS rfl 3 _ _ _ _ _ _ ?_
  simp (disch := first | omega | (simp only [gs_new, gs_put] <;> omega)) only [exB, Nat.reduceAdd, Nat.reduceSub, Nat.reduceMul, Nat.reduceLeDiff, Nat.reduceLT, Nat.reduceEqDiff, Nat.reduceBEq, Int.reduceAdd, Int.reduceSub, Int.reduceMul, Int.reduceNeg, Int.reduceToNat, Int.reduceLE, Int.reduceLT, Int.reduceEq, Int.reduceGE, Int.reduceGT, ↓reduceIte, reduceCtorEq, gm_pe, gm_pn, gc_put, gl_put, gs_put, exists_eq_left', exists_eq_left, gs_new, gc_ne, gc_nn, gl_ne, gl_nn, gm_ne, gm_nn, cd_J23_next, ha]
  have e3 : gm (gput (gput G it 1 (.ref a)) it 0 (hdv F)) a 1 = gm G a 1 := by simp only [gm_put, e2, false_and, if_false]
  refine gCall.of (i_getKey (G := gput (gput G it 1 (.ref a)) it 0 (hdv F)) ha (by rw [e3]; exact hr)) (by decide) (by first | omega | decide) (by first | omega | decide) ?_
  rintro r G' ⟨rfl, rfl⟩
  refine exS rfl 3 _ _ _ _ _ _ ?_
  simp (disch := first | omega | (simp only [gs_new, gs_put] <;> omega)) only [exB, Nat.reduceAdd, Nat.reduceSub, Nat.reduceMul, Nat.reduceLeDiff, Nat.reduceLT, Nat.reduceEqDiff, Nat.reduceBEq, Int.reduceAdd, Int.reduceSub, Int.reduceMul, Int.reduceNeg, Int.reduceToNat, Int.reduceLE, Int.reduceLT, Int.reduceEq, Int.reduceGE, Int.reduceGT, ↓reduceIte, reduceCtorEq, gm_pe, gm_pn, gc_put, gl_put, gs_put, exists_eq_left', exists_eq_left, gs_new, gc_ne, gc_nn, gl_ne, gl_nn, gm_ne, gm_nn, cd_J23_next, e3]
  exact hr
theorem LM.aft {e : lE} {P F : List lE} (h : LM G S m c (P ++ e :: F)) : gm G (ea e) 5 = hdv (F.map ea) := by
  have := h.2.2.2.2.2.2.2.2.2.1
  rw [List.map_append, List.map_cons] at this
  exact (chn.at _ _ this).hd
theorem It.fr {T : Nat → Prop} {G' : gH} {it : Nat} {F : List Nat} (h : It G it m F) (hF : Fr T G G') (h1 : ¬ T it) (h2 : gm G' m 3 = gm G m 3) : It G' it m F := by
  obtain ⟨i1, i2, i3, i4, i5, i6⟩ := h
  have := hF.1
  refine ⟨by omega, by rw [hF.c i1]; exact i2, ?_, ?_, ?_, ?_⟩ <;> rw [hF.m i1 h1]
  · exact i3
  · rw [h2]; exact i4
  · exact i5
  · exact i6
/-- the next key of a map that is gone through -/
theorem i_next {it : Nat} {e : lE} {P F : List lE} (hL : LM G S m c (P ++ e :: F)) (hI : It G it m ((e :: F).map ea)) : Tri X 2 Y_J23_next [.ref it] 0 0 G (fun r G' => ∃ kc, r = some (.ref kc) ∧ isCell G kc (ek e) ∧ It G' it m (F.map ea) ∧ gs G' = gs G ∧ Fr (fun a => a = it) G G') := by
  obtain ⟨n1, n2, n3, n4, ⟨kc, n5, n7⟩, n8⟩ := hL.node e (by simp)
  obtain ⟨mc, h3⟩ := hL.2.2.1
  have hit := hI.2.1
  have e2 : ¬ m = it := fun q => by have := hL.1.2.2; rw [q, hit] at this; cases this
  refine (i_next0 hI hL.1.2.2 h3 n3 hL.aft (by rw [n5]; exact trivial)).mo ?_
  rintro r G' ⟨rfl, rfl⟩
  refine ⟨kc, by rw [n5], n7, ⟨hI.1, hI.2.1, ?_, ?_, ?_, ?_⟩, rfl, ?_⟩
  · simp only [gm_put, and_self, if_true]
  · simp only [gm_put, e2, false_and, if_false]
    exact hI.2.2.2.1
  · rw [gm_pn (by omega), gm_pn (by omega)]; exact hI.2.2.2.2.1
  · rw [gm_pn (by omega), gm_pn (by omega)]; exact hI.2.2.2.2.2
  · exact (Fr.put (S := fun a => a = it) Fr.refl (Or.inl ⟨rfl, by rw [hit]; decide⟩)).put (Or.inl ⟨rfl, by rw [gc_put, hit]; decide⟩)
theorem k_init {ks : Nat} (hk : gc G ks = 22) : Tri X 4 Y_J25_init [.ref ks, .ref m, .int (iI 0)] 0 0 G (fun r G' => r = none ∧ G' = gput (gput G ks 1 (.ref m)) ks 0 (.int (iI 0))) := by
  refine Tri.of (by decide +kernel) (Nat.le_of_ble_eq_true rfl) ?_
  refine exS rfl 6 _ _ _ _ _ _ ?_
  simp (disch := first | omega | (simp only [gs_new, gs_put] <;> omega)) only [exB, Nat.reduceAdd, Nat.reduceSub, Nat.reduceMul, Nat.reduceLeDiff, Nat.reduceLT, Nat.reduceEqDiff, Nat.reduceBEq, Int.reduceAdd, Int.reduceSub, Int.reduceMul, Int.reduceNeg, Int.reduceToNat, Int.reduceLE, Int.reduceLT, Int.reduceEq, Int.reduceGE, Int.reduceGT, ↓reduceIte, reduceCtorEq, gm_pe, gm_pn, gc_put, gl_put, gs_put, exists_eq_left', exists_eq_left, gs_new, gc_ne, gc_nn, gl_ne, gl_nn, gm_ne, gm_nn, cd_J25_init, (show (my Y_J25_init).name = "<init>" from rfl), hk]
  refine gCall.of (j_as (G := gput G ks 1 (.ref m)) (by rw [gc_put, hk]; decide)) (by decide) (by first | omega | decide) (by first | omega | decide) ?_
  rintro r G' ⟨rfl, rfl⟩
  refine exS rfl 6 _ _ _ _ _ _ ?_
  simp (disch := first | omega | (simp only [gs_new, gs_put] <;> omega)) only [exB, Nat.reduceAdd, Nat.reduceSub, Nat.reduceMul, Nat.reduceLeDiff, Nat.reduceLT, Nat.reduceEqDiff, Nat.reduceBEq, Int.reduceAdd, Int.reduceSub, Int.reduceMul, Int.reduceNeg, Int.reduceToNat, Int.reduceLE, Int.reduceLT, Int.reduceEq, Int.reduceGE, Int.reduceGT, ↓reduceIte, reduceCtorEq, gm_pe, gm_pn, gc_put, gl_put, gs_put, exists_eq_left', exists_eq_left, gs_new, gc_ne, gc_nn, gl_ne, gl_nn, gm_ne, gm_nn, cd_J25_init, (show (my Y_J25_init).name = "<init>" from rfl), hk]
/-- a key set is made -/
def ksG (G : gH) (m : Nat) : gH := gput (gput (gput (gnew G 22 0 (vp_V (gDf 21))) (gs G) 1 (.ref m)) (gs G) 0 (.int (iI 0))) m 6 (.ref (gs G))
theorem h_seqKeySet (hL : LM G S m c E) : Tri X 5 Y_J5_sequencedKeySet [.ref m] 1 2 G (fun r G' => ∃ ks, r = some (.ref ks) ∧ ks < gs G' ∧ gc G' ks = 22 ∧ gm G' ks 0 = .int (iI 0) ∧ gm G' ks 1 = .ref m ∧ LM G' (cl S G) m c E ∧ Fr (fun a => a = m) G G' ∧ gs G' ≤ gs G + 1) := by
  obtain ⟨⟨h1, h2, h3⟩, h4⟩ := id hL
  rcases h4.2.2.2.1 with h6 | ⟨ks, h6, k1, k2, k3, k4⟩
  · have hne : ¬ m = gs G := by omega
    refine Tri.ofQ (by decide +kernel) (Nat.le_of_ble_eq_true rfl) (fun Q hQ => ?_)
    refine exS rfl 10 _ _ _ _ _ _ ?_
    simp (disch := first | omega | (simp only [gs_new, gs_put] <;> omega)) only [exB, Nat.reduceAdd, Nat.reduceSub, Nat.reduceMul, Nat.reduceLeDiff, Nat.reduceLT, Nat.reduceEqDiff, Nat.reduceBEq, Int.reduceAdd, Int.reduceSub, Int.reduceMul, Int.reduceNeg, Int.reduceToNat, Int.reduceLE, Int.reduceLT, Int.reduceEq, Int.reduceGE, Int.reduceGT, ↓reduceIte, reduceCtorEq, gm_pe, gm_pn, gc_put, gl_put, gs_put, exists_eq_left', exists_eq_left, gs_new, gc_ne, gc_nn, gl_ne, gl_nn, gm_ne, gm_nn, cd_J5_sequencedKeySet, h3, h6]
    refine gCall.of (k_init (G := gnew G 22 0 (vp_V (gDf 21))) (m := m) gc_ne) (by decide) (by first | omega | decide) (by first | omega | decide) ?_
    rintro r G' ⟨rfl, rfl⟩
    refine exS rfl 8 _ _ _ _ _ _ ?_
    simp (disch := first | omega | (simp only [gs_new, gs_put] <;> omega)) only [exB, Nat.reduceAdd, Nat.reduceSub, Nat.reduceMul, Nat.reduceLeDiff, Nat.reduceLT, Nat.reduceEqDiff, Nat.reduceBEq, Int.reduceAdd, Int.reduceSub, Int.reduceMul, Int.reduceNeg, Int.reduceToNat, Int.reduceLE, Int.reduceLT, Int.reduceEq, Int.reduceGE, Int.reduceGT, ↓reduceIte, reduceCtorEq, gm_pe, gm_pn, gc_put, gl_put, gs_put, exists_eq_left', exists_eq_left, gs_new, gc_ne, gc_nn, gl_ne, gl_nn, gm_ne, gm_nn, cd_J5_sequencedKeySet, h3]
    refine hQ _ (ksG G m) ?_
    have hF0 : Fr (fun a => a = m) G (gput (gput (gnew G 22 0 (vp_V (gDf 21))) (gs G) 1 (.ref m)) (gs G) 0 (.int (iI 0))) := ((Fr.refl.new).put (Or.inr (Nat.le_refl _))).put (Or.inr (Nat.le_refl _))
    have hF : Fr (fun a => a = m) G (ksG G m) := hF0.put (Or.inl ⟨rfl, by rw [gc_put, gc_put, gc_nn h2, h3]; decide⟩)
    have e0 : gs (ksG G m) = gs G + 1 := rfl
    have e1 : gm (ksG G m) (gs G) 0 = .int (iI 0) := by unfold ksG; rw [gm_pn (by omega), gm_pe]
    have e2 : gm (ksG G m) (gs G) 1 = .ref m := by unfold ksG; rw [gm_pn (by omega), gm_pn (by omega), gm_pe]
    have e3 : gs G < gs (ksG G m) := by omega
    have e4 : gs (ksG G m) ≤ gs G + 1 := by omega
    have e5 : gc (ksG G m) (gs G) = 22 := gc_ne (G := G) (t := 22) (n := 0) (f := vp_V (gDf 21))
    refine ⟨gs G, rfl, e3, e5, e1, e2, ?_, hF, e4⟩
    have hL1 := (hL.cl).fr (T := fun _ => False) (S' := cl S G) (((Fr.refl.new (t := 22) (n := 0) (f := vp_V (gDf 21))).put (a := gs G) (j := 1) (v := .ref m) (Or.inr (Nat.le_refl _))).put (a := gs G) (j := 0) (v := .int (iI 0)) (Or.inr (Nat.le_refl _))) (fun _ _ _ q => q) (fun _ _ q => q)
    refine hL1.remake rfl rfl rfl (fun a ha => ?_) (fun j j6 j3 => ?_) ?_ (Or.inr ⟨gs G, ?_, e3, e5, e1, e2⟩)
    · funext j; unfold ksG; rw [gm_pn (fun q => ha q.1)]
    · unfold ksG; rw [gm_pn (fun q => j6 q.2)]
    · obtain ⟨mc, hmc⟩ := hL1.2.2.1
      exact ⟨mc, by unfold ksG; rw [gm_pn (by omega)]; exact hmc⟩
    · unfold ksG; rw [gm_pe]
  · refine Tri.ofQ (by decide +kernel) (Nat.le_of_ble_eq_true rfl) (fun Q hQ => ?_)
    refine exS rfl 12 _ _ _ _ _ _ ?_
    simp (disch := first | omega | (simp only [gs_new, gs_put] <;> omega)) only [exB, Nat.reduceAdd, Nat.reduceSub, Nat.reduceMul, Nat.reduceLeDiff, Nat.reduceLT, Nat.reduceEqDiff, Nat.reduceBEq, Int.reduceAdd, Int.reduceSub, Int.reduceMul, Int.reduceNeg, Int.reduceToNat, Int.reduceLE, Int.reduceLT, Int.reduceEq, Int.reduceGE, Int.reduceGT, ↓reduceIte, reduceCtorEq, gm_pe, gm_pn, gc_put, gl_put, gs_put, exists_eq_left', exists_eq_left, gs_new, gc_ne, gc_nn, gl_ne, gl_nn, gm_ne, gm_nn, cd_J5_sequencedKeySet, h3, h6, k2]
    exact hQ _ _ ⟨ks, rfl, k1, k2, k3, k4, hL.cl, Fr.refl, by omega⟩
theorem h_keySet (hL : LM G S m c E) : Tri X 6 Y_J5_keySet [.ref m] 1 2 G (fun r G' => ∃ ks, r = some (.ref ks) ∧ ks < gs G' ∧ gc G' ks = 22 ∧ gm G' ks 0 = .int (iI 0) ∧ gm G' ks 1 = .ref m ∧ LM G' (cl S G) m c E ∧ Fr (fun a => a = m) G G' ∧ gs G' ≤ gs G + 1) := by
  refine Tri.ofQ (by decide +kernel) (Nat.le_of_ble_eq_true rfl) (fun Q hQ => ?_)
  refine exS rfl 3 _ _ _ _ _ _ ?_
  simp (disch := first | omega | (simp only [gs_new, gs_put] <;> omega)) only [exB, Nat.reduceAdd, Nat.reduceSub, Nat.reduceMul, Nat.reduceLeDiff, Nat.reduceLT, Nat.reduceEqDiff, Nat.reduceBEq, Int.reduceAdd, Int.reduceSub, Int.reduceMul, Int.reduceNeg, Int.reduceToNat, Int.reduceLE, Int.reduceLT, Int.reduceEq, Int.reduceGE, Int.reduceGT, ↓reduceIte, reduceCtorEq, gm_pe, gm_pn, gc_put, gl_put, gs_put, exists_eq_left', exists_eq_left, gs_new, gc_ne, gc_nn, gl_ne, gl_nn, gm_ne, gm_nn, cd_J5_keySet, hL.1.2.2]
  refine gCall.of (h_seqKeySet hL) (by decide) (by first | omega | decide) (by first | omega | decide) ?_
  rintro r G' ⟨ks, rfl, q⟩
  refine exS rfl 3 _ _ _ _ _ _ ?_
  simp (disch := first | omega | (simp only [gs_new, gs_put] <;> omega)) only [exB, Nat.reduceAdd, Nat.reduceSub, Nat.reduceMul, Nat.reduceLeDiff, Nat.reduceLT, Nat.reduceEqDiff, Nat.reduceBEq, Int.reduceAdd, Int.reduceSub, Int.reduceMul, Int.reduceNeg, Int.reduceToNat, Int.reduceLE, Int.reduceLT, Int.reduceEq, Int.reduceGE, Int.reduceGT, ↓reduceIte, reduceCtorEq, gm_pe, gm_pn, gc_put, gl_put, gs_put, exists_eq_left', exists_eq_left, gs_new, gc_ne, gc_nn, gl_ne, gl_nn, gm_ne, gm_nn, cd_J5_keySet]
  exact hQ _ _ ⟨ks, rfl, q⟩
/-- what an iterator over a map has at its begin -/
abbrev itP (G : gH) (S : Nat → Prop) (m : Nat) (c : Int) (E : List lE) (k : Nat) : Option Value → gH → Prop := fun r G' => ∃ it, r = some (.ref it) ∧ gs G ≤ it ∧ It G' it m (E.map ea) ∧ LM G' (cl S G) m c E ∧ Fr (fun a => a = m) G G' ∧ gs G' ≤ gs G + k
theorem k_iterator {ks : Nat} (hL : LM G S m c E) (hk : ks < gs G ∧ gc G ks = 22 ∧ gm G ks 0 = .int (iI 0) ∧ gm G ks 1 = .ref m) : Tri X 4 Y_J25_iterator [.ref ks] 1 5 G (itP G S m c E 1) := by
  obtain ⟨k1, k2, k3, k4⟩ := hk
  obtain ⟨⟨h1, h2, h3⟩, h4⟩ := id hL
  obtain ⟨mc, h5⟩ := h4.2.1
  have h8 := (h4.2.2.2.2.2.2.2.2.1).hd
  refine Tri.ofQ (by decide +kernel) (Nat.le_of_ble_eq_true rfl) (fun Q hQ => ?_)
  refine exS rfl 10 _ _ _ _ _ _ ?_
  simp (disch := first | omega | (simp only [gs_new, gs_put] <;> omega)) only [exB, Nat.reduceAdd, Nat.reduceSub, Nat.reduceMul, Nat.reduceLeDiff, Nat.reduceLT, Nat.reduceEqDiff, Nat.reduceBEq, Int.reduceAdd, Int.reduceSub, Int.reduceMul, Int.reduceNeg, Int.reduceToNat, Int.reduceLE, Int.reduceLT, Int.reduceEq, Int.reduceGE, Int.reduceGT, ↓reduceIte, reduceCtorEq, gm_pe, gm_pn, gc_put, gl_put, gs_put, exists_eq_left', exists_eq_left, gs_new, gc_ne, gc_nn, gl_ne, gl_nn, gm_ne, gm_nn, cd_J25_iterator, k2, k3, k4]
  refine gCall.of (i_init1 (G := gnew G 21 0 (vp_V (gDf 20))) (m := m) (it := gs G) (l := E.map ea) (mc := mc) gc_ne (by rw [gc_nn h2]; exact h3) (by rw [gm_nn h2]; exact h8) (by rw [gm_nn h2]; exact h5)) (by decide) (by first | omega | decide) (by first | omega | decide) ?_
  rintro r G' ⟨rfl, rfl⟩
  refine exS rfl 3 _ _ _ _ _ _ ?_
  simp (disch := first | omega | (simp only [gs_new, gs_put] <;> omega)) only [exB, Nat.reduceAdd, Nat.reduceSub, Nat.reduceMul, Nat.reduceLeDiff, Nat.reduceLT, Nat.reduceEqDiff, Nat.reduceBEq, Int.reduceAdd, Int.reduceSub, Int.reduceMul, Int.reduceNeg, Int.reduceToNat, Int.reduceLE, Int.reduceLT, Int.reduceEq, Int.reduceGE, Int.reduceGT, ↓reduceIte, reduceCtorEq, gm_pe, gm_pn, gc_put, gl_put, gs_put, exists_eq_left', exists_eq_left, gs_new, gc_ne, gc_nn, gl_ne, gl_nn, gm_ne, gm_nn, cd_J25_iterator]
  have hne : ¬ m = gs G := by omega
  have hF : Fr (fun _ => False) G (itG (gnew G 21 0 (vp_V (gDf 20))) (gs G) m) := (((((Fr.refl.new).put (Or.inr (Nat.le_refl _))).put (Or.inr (Nat.le_refl _))).put (Or.inr (Nat.le_refl _))).put (Or.inr (Nat.le_refl _))).put (Or.inr (Nat.le_refl _))
  refine hQ _ _ ⟨gs G, rfl, Nat.le_refl _, ⟨?_, gc_ne (G := G) (t := 21) (n := 0) (f := vp_V (gDf 20)), ?_, ?_, ?_, ?_⟩, hL.cl.fr hF (fun _ _ _ q => q) (fun _ _ q => q), hF.mono (fun _ _ q => q.elim), ?_⟩
  · show gs G < gs G + 1; omega
  · unfold itG; simp only [gm_put, and_true, true_and, Nat.reduceEqDiff, if_false, if_true, and_false, gm_nn h2]; exact h8
  · unfold itG; simp only [gm_put, and_true, true_and, Nat.reduceEqDiff, if_false, if_true, and_false, gm_nn h2, hne, false_and]
  · unfold itG; simp only [gm_put, and_true, true_and, Nat.reduceEqDiff, if_false, if_true, and_false]
  · unfold itG; simp only [gm_put, and_true, true_and, Nat.reduceEqDiff, if_false, if_true, and_false]
  · show gs G + 1 ≤ _; omega
theorem s_iterator (hL : HS G S s m c E) : Tri X 7 Y_J14_iterator [.ref s] 2 7 G (fun r G' => itP G S m c E 2 r G' ∧ HS G' (cl S G) s m c E) := by
  obtain ⟨⟨a1, a2, a3, a4⟩, hL⟩ := hL
  have hsm : ¬ s = m := ne_tag a3 hL.1.2.2 (by decide)
  refine Tri.ofQ (by decide +kernel) (Nat.le_of_ble_eq_true rfl) (fun Q hQ => ?_)
  refine exS rfl 3 _ _ _ _ _ _ ?_
  simp (disch := first | omega | (simp only [gs_new, gs_put] <;> omega)) only [exB, Nat.reduceAdd, Nat.reduceSub, Nat.reduceMul, Nat.reduceLeDiff, Nat.reduceLT, Nat.reduceEqDiff, Nat.reduceBEq, Int.reduceAdd, Int.reduceSub, Int.reduceMul, Int.reduceNeg, Int.reduceToNat, Int.reduceLE, Int.reduceLT, Int.reduceEq, Int.reduceGE, Int.reduceGT, ↓reduceIte, reduceCtorEq, gm_pe, gm_pn, gc_put, gl_put, gs_put, exists_eq_left', exists_eq_left, gs_new, gc_ne, gc_nn, gl_ne, gl_nn, gm_ne, gm_nn, cd_J14_iterator, a3, a4, hL.1.2.2]
  refine gCall.of (h_keySet hL) (by decide) (by first | omega | decide) (by first | omega | decide) ?_
  rintro r G' ⟨ks, rfl, q1, q2, q3, q4, q5, q6, q7⟩
  refine exS rfl 3 _ _ _ _ _ _ ?_
  simp (disch := first | omega | (simp only [gs_new, gs_put] <;> omega)) only [exB, Nat.reduceAdd, Nat.reduceSub, Nat.reduceMul, Nat.reduceLeDiff, Nat.reduceLT, Nat.reduceEqDiff, Nat.reduceBEq, Int.reduceAdd, Int.reduceSub, Int.reduceMul, Int.reduceNeg, Int.reduceToNat, Int.reduceLE, Int.reduceLT, Int.reduceEq, Int.reduceGE, Int.reduceGT, ↓reduceIte, reduceCtorEq, gm_pe, gm_pn, gc_put, gl_put, gs_put, exists_eq_left', exists_eq_left, gs_new, gc_ne, gc_nn, gl_ne, gl_nn, gm_ne, gm_nn, cd_J14_iterator, q2]
  refine gCall.of (k_iterator q5 ⟨q1, q2, q3, q4⟩) (by decide) (by first | omega | decide) (by first | omega | decide) ?_
  rintro r G2 ⟨it, rfl, w1, w2, w3, w4, w5⟩
  refine exS rfl 3 _ _ _ _ _ _ ?_
  simp (disch := first | omega | (simp only [gs_new, gs_put] <;> omega)) only [exB, Nat.reduceAdd, Nat.reduceSub, Nat.reduceMul, Nat.reduceLeDiff, Nat.reduceLT, Nat.reduceEqDiff, Nat.reduceBEq, Int.reduceAdd, Int.reduceSub, Int.reduceMul, Int.reduceNeg, Int.reduceToNat, Int.reduceLE, Int.reduceLT, Int.reduceEq, Int.reduceGE, Int.reduceGT, ↓reduceIte, reduceCtorEq, gm_pe, gm_pn, gc_put, gl_put, gs_put, exists_eq_left', exists_eq_left, gs_new, gc_ne, gc_nn, gl_ne, gl_nn, gm_ne, gm_nn, cd_J14_iterator]
  have := q6.1
  have hF : Fr (fun a => a = m) G G2 := q6.trans w4 (fun _ _ q => q)
  refine hQ _ _ ⟨⟨it, rfl, by omega, w2, w3.mono (fun a _ q => q.1), hF, by omega⟩, ⟨⟨a1, a2⟩, by have := hF.1; omega, by rw [hF.c a2]; exact a3, by rw [hF.m a2 hsm]; exact a4⟩, w3.mono (fun a _ q => q.1)⟩
end
