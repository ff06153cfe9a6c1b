/-! LINKED HASH MAPS: what is read -/
set_option maxRecDepth 100000
set_option maxHeartbeats 1000000
theorem and_16 : ∀ n : Fin 162, Int32.ofNat 15 &&& Int32.ofNat n.val = Int32.ofNat (n.val % 16) := by decide +kernel
theorem and_32c : ∀ n : Fin 162, Int32.ofNat 31 &&& Int32.ofNat n.val = Int32.ofNat (n.val % 32) := by decide +kernel
theorem and_64 : ∀ n : Fin 162, Int32.ofNat 63 &&& Int32.ofNat n.val = Int32.ofNat (n.val % 64) := by decide +kernel
theorem and_128 : ∀ n : Fin 162, Int32.ofNat 127 &&& Int32.ofNat n.val = Int32.ofNat (n.val % 128) := by decide +kernel
theorem and_256 : ∀ n : Fin 162, Int32.ofNat 255 &&& Int32.ofNat n.val = Int32.ofNat (n.val % 256) := by decide +kernel
theorem and_c {c z : Int} (hc : isCap c) (hz : inC z) : iI (c - 1) &&& iI z = iI (z % c) := by
  obtain ⟨n, rfl⟩ := Int.eq_ofNat_of_zero_le hz.1
  have hn : n < 162 := by have := hz.2; omega
  rw [← iI_of]
  rcases hc with rfl | rfl | rfl | rfl | rfl
  · exact (and_16 ⟨n, hn⟩).trans (iI_of _)
  · exact (and_32c ⟨n, hn⟩).trans (iI_of _)
  · exact (and_64 ⟨n, hn⟩).trans (iI_of _)
  · exact (and_128 ⟨n, hn⟩).trans (iI_of _)
  · exact (and_256 ⟨n, hn⟩).trans (iI_of _)
theorem cap_mod {c : Int} (hc : isCap c) (z : Int) : 0 ≤ z % c ∧ z % c < c := ⟨Int.emod_nonneg _ (by omega), Int.emod_lt_of_pos _ (by omega)⟩
def ndv (o : Option lE) : Value := match o with
  | some e => .ref (ea e)
  | none => .null
theorem lkp_bkt {E : List lE} {z c : Int} : lkp (bkt E c (z % c)) z = lkp E z := by
  unfold lkp bkt
  rw [List.find?_filter]
  congr 1
  funext e
  by_cases h : ek e = z <;> simp [h]
theorem lkp_cons {e : lE} {E : List lE} {z : Int} : lkp (e :: E) z = if ek e = z then some e else lkp E z := by
  unfold lkp
  rw [List.find?_cons]
  by_cases h : ek e = z <;> simp [h]
theorem lkp_mem {E : List lE} {z : Int} {e : lE} (h : lkp E z = some e) : e ∈ E ∧ ek e = z := ⟨List.mem_of_find?_eq_some h, by simpa using List.find?_some h⟩
theorem lkp_none {E : List lE} {z : Int} : lkp E z = none ↔ z ∉ E.map ek := by
  unfold lkp
  rw [List.find?_eq_none, List.mem_map]
  simp
theorem LM.node {G : gH} {S : Nat → Prop} {m : Nat} {c : Int} {E : List lE} (h : LM G S m c E) : ∀ e ∈ E, nodOK G S e := h.2.2.2.2.2.2.2.1
theorem LM.tab {G : gH} {S : Nat → Prop} {m : Nat} {c : Int} {E : List lE} (h : LM G S m c E) : tabOK G S m c E := h.2.2.2.2.2.2.2.2.2.2.2
section
variable {X : gX} {G : gH} {S : Nat → Prop} {m : Nat} {c : Int} {E : List lE}
theorem gn_loop {Q : Option Value → gH → Prop} {kc tab : Nat} {z : Int} (hk : isCell G kc z) : ∀ (F : List lE) (e : lE), (∀ e' ∈ e :: F, nodOK G S e') → chn G 3 (.ref (ea e)) ((e :: F).map ea) → Q (some (ndv (lkp (e :: F) z))) G → ∀ u v, Wp X Y_J4_getNode 3 Q 0 0 G 99 [some (.ref m), some (.ref kc), some (.ref tab), u, some (.ref (ea e)), some (.int (iI c)), some (.int (iI z)), v] [] := by
  have hz := hk.2.2.2
  intro F
  induction F with
  | nil =>
    intro e hn hc hQ u v
    obtain ⟨n1, n2, n3, n4, ⟨ke, n5, n7⟩, n8⟩ := hn e List.mem_cons_self
    have he := n7.2.2.2
    have hnx : gm G (ea e) 3 = .null := hc.2
    rw [lkp_cons] at hQ
    by_cases h : ek e = z
    · rw [if_pos h] at hQ
      refine excS rfl 99 40 _ _ _ _ _ _ ?_
      simp (disch := first | omega | (simp only [gs_new, gs_put] <;> omega)) only [exB, Nat.reduceAdd, Nat.reduceSub, Nat.reduceMul, Nat.reduceLeDiff, Nat.reduceLT, Nat.reduceEqDiff, Nat.reduceBEq, Int.reduceAdd, Int.reduceSub, Int.reduceMul, Int.reduceNeg, Int.reduceToNat, Int.reduceLE, Int.reduceLT, Int.reduceEq, Int.reduceGE, Int.reduceGT, ↓reduceIte, reduceCtorEq, gm_pe, gm_pn, gc_put, gl_put, gs_put, exists_eq_left', exists_eq_left, gs_new, gc_ne, gc_nn, gl_ne, gl_nn, gm_ne, gm_nn, cd_J4_getNode, n3, n4, n5, hnx, iI_rt, h, hk.2.1]
      refine ⟨fun _ => hQ, fun _ => ?_⟩
      rw [h] at n7
      refine gCall.of (c_equals hk n7) (by decide) (by first | omega | decide) (by first | omega | decide) ?_
      rintro r G' ⟨rfl, rfl⟩
      rw [if_pos rfl]
      refine exS rfl 6 _ _ _ _ _ _ ?_
      simp (disch := first | omega | (simp only [gs_new, gs_put] <;> omega)) only [exB, Nat.reduceAdd, Nat.reduceSub, Nat.reduceMul, Nat.reduceLeDiff, Nat.reduceLT, Nat.reduceEqDiff, Nat.reduceBEq, Int.reduceAdd, Int.reduceSub, Int.reduceMul, Int.reduceNeg, Int.reduceToNat, Int.reduceLE, Int.reduceLT, Int.reduceEq, Int.reduceGE, Int.reduceGT, ↓reduceIte, reduceCtorEq, gm_pe, gm_pn, gc_put, gl_put, gs_put, exists_eq_left', exists_eq_left, gs_new, gc_ne, gc_nn, gl_ne, gl_nn, gm_ne, gm_nn, cd_J4_getNode, iI_rt]
      exact hQ
    · rw [if_neg h] at hQ
      refine excS rfl 99 40 _ _ _ _ _ _ ?_
      simp (disch := first | omega | (simp only [gs_new, gs_put] <;> omega)) only [exB, Nat.reduceAdd, Nat.reduceSub, Nat.reduceMul, Nat.reduceLeDiff, Nat.reduceLT, Nat.reduceEqDiff, Nat.reduceBEq, Int.reduceAdd, Int.reduceSub, Int.reduceMul, Int.reduceNeg, Int.reduceToNat, Int.reduceLE, Int.reduceLT, Int.reduceEq, Int.reduceGE, Int.reduceGT, ↓reduceIte, reduceCtorEq, gm_pe, gm_pn, gc_put, gl_put, gs_put, exists_eq_left', exists_eq_left, gs_new, gc_ne, gc_nn, gl_ne, gl_nn, gm_ne, gm_nn, cd_J4_getNode, n3, n4, n5, hnx, iI_rt, h]
      exact hQ
  | cons e2 F ih =>
    intro e hn hc hQ u v
    obtain ⟨n1, n2, n3, n4, ⟨ke, n5, n7⟩, n8⟩ := hn e List.mem_cons_self
    have he := n7.2.2.2
    have hnx : gm G (ea e) 3 = .ref (ea e2) := hc.2.1
    have hc2 := hc.2
    rw [hnx] at hc2
    rw [lkp_cons] at hQ
    by_cases h : ek e = z
    · rw [if_pos h] at hQ
      refine excS rfl 99 40 _ _ _ _ _ _ ?_
      simp (disch := first | omega | (simp only [gs_new, gs_put] <;> omega)) only [exB, Nat.reduceAdd, Nat.reduceSub, Nat.reduceMul, Nat.reduceLeDiff, Nat.reduceLT, Nat.reduceEqDiff, Nat.reduceBEq, Int.reduceAdd, Int.reduceSub, Int.reduceMul, Int.reduceNeg, Int.reduceToNat, Int.reduceLE, Int.reduceLT, Int.reduceEq, Int.reduceGE, Int.reduceGT, ↓reduceIte, reduceCtorEq, gm_pe, gm_pn, gc_put, gl_put, gs_put, exists_eq_left', exists_eq_left, gs_new, gc_ne, gc_nn, gl_ne, gl_nn, gm_ne, gm_nn, cd_J4_getNode, n3, n4, n5, hnx, iI_rt, h, hk.2.1]
      refine ⟨fun _ => hQ, fun _ => ?_⟩
      rw [h] at n7
      refine gCall.of (c_equals hk n7) (by decide) (by first | omega | decide) (by first | omega | decide) ?_
      rintro r G' ⟨rfl, rfl⟩
      rw [if_pos rfl]
      refine exS rfl 6 _ _ _ _ _ _ ?_
      simp (disch := first | omega | (simp only [gs_new, gs_put] <;> omega)) only [exB, Nat.reduceAdd, Nat.reduceSub, Nat.reduceMul, Nat.reduceLeDiff, Nat.reduceLT, Nat.reduceEqDiff, Nat.reduceBEq, Int.reduceAdd, Int.reduceSub, Int.reduceMul, Int.reduceNeg, Int.reduceToNat, Int.reduceLE, Int.reduceLT, Int.reduceEq, Int.reduceGE, Int.reduceGT, ↓reduceIte, reduceCtorEq, gm_pe, gm_pn, gc_put, gl_put, gs_put, exists_eq_left', exists_eq_left, gs_new, gc_ne, gc_nn, gl_ne, gl_nn, gm_ne, gm_nn, cd_J4_getNode, iI_rt]
      exact hQ
    · rw [if_neg h] at hQ
      refine excS rfl 99 40 _ _ _ _ _ _ ?_
      simp (disch := first | omega | (simp only [gs_new, gs_put] <;> omega)) only [exB, Nat.reduceAdd, Nat.reduceSub, Nat.reduceMul, Nat.reduceLeDiff, Nat.reduceLT, Nat.reduceEqDiff, Nat.reduceBEq, Int.reduceAdd, Int.reduceSub, Int.reduceMul, Int.reduceNeg, Int.reduceToNat, Int.reduceLE, Int.reduceLT, Int.reduceEq, Int.reduceGE, Int.reduceGT, ↓reduceIte, reduceCtorEq, gm_pe, gm_pn, gc_put, gl_put, gs_put, exists_eq_left', exists_eq_left, gs_new, gc_ne, gc_nn, gl_ne, gl_nn, gm_ne, gm_nn, cd_J4_getNode, n3, n4, n5, hnx, iI_rt, h]
      exact ih e2 (fun e' he' => hn e' (List.mem_cons_of_mem _ he')) hc2 hQ _ _
theorem h_getNode {kc : Nat} {z : Int} (hL : LM G S m c E) (hk : isCell G kc z) : Tri X 3 Y_J4_getNode [.ref m, .ref kc] 0 0 G (fun r G' => r = some (ndv (lkp E z)) ∧ G' = G) := by
  have hm := hL.1.2.2
  have hz := hk.2.2.2
  refine Tri.of (by decide +kernel) (Nat.le_of_ble_eq_true rfl) ?_
  generalize hQ : (fun (r : Option Value) G' => r = some (ndv (lkp E z)) ∧ G' = G) = Q
  rcases hL.tab with ⟨-, rfl, t0, -⟩ | ⟨hc, -, -, tab, t0, -, -, t1, t2, t3⟩
  · refine exS rfl 40 _ _ _ _ _ _ ?_
    simp (disch := first | omega | (simp only [gs_new, gs_put] <;> omega)) only [exB, Nat.reduceAdd, Nat.reduceSub, Nat.reduceMul, Nat.reduceLeDiff, Nat.reduceLT, Nat.reduceEqDiff, Nat.reduceBEq, Int.reduceAdd, Int.reduceSub, Int.reduceMul, Int.reduceNeg, Int.reduceToNat, Int.reduceLE, Int.reduceLT, Int.reduceEq, Int.reduceGE, Int.reduceGT, ↓reduceIte, reduceCtorEq, gm_pe, gm_pn, gc_put, gl_put, gs_put, exists_eq_left', exists_eq_left, gs_new, gc_ne, gc_nn, gl_ne, gl_nn, gm_ne, gm_nn, cd_J4_getNode, hm, t0]
    subst hQ
    exact ⟨rfl, rfl⟩
  · have hgl : ((gl G tab : Nat) : Int) = c := by omega
    have hb := cap_mod hc z
    have t4 := t3 (z % c) hb.1 hb.2
    have hnB : ∀ e ∈ bkt E c (z % c), nodOK G S e := fun e he => hL.node e (List.mem_filter.mp he).1
    have hQ0 : Q (some (ndv (lkp (bkt E c (z % c)) z))) G := by
      subst hQ
      exact ⟨by rw [lkp_bkt], rfl⟩
    have ha := and_c hc hz
    generalize z % c = b at hb t4 hnB hQ0 ha
    generalize bkt E c b = B at t4 hnB hQ0
    refine exS rfl 40 _ _ _ _ _ _ ?_
    simp (disch := first | omega | (simp only [gs_new, gs_put] <;> omega)) only [exB, Nat.reduceAdd, Nat.reduceSub, Nat.reduceMul, Nat.reduceLeDiff, Nat.reduceLT, Nat.reduceEqDiff, Nat.reduceBEq, Int.reduceAdd, Int.reduceSub, Int.reduceMul, Int.reduceNeg, Int.reduceToNat, Int.reduceLE, Int.reduceLT, Int.reduceEq, Int.reduceGE, Int.reduceGT, ↓reduceIte, reduceCtorEq, gm_pe, gm_pn, gc_put, gl_put, gs_put, exists_eq_left', exists_eq_left, gs_new, gc_ne, gc_nn, gl_ne, gl_nn, gm_ne, gm_nn, cd_J4_getNode, hm, t0, t1, hgl, iI_rt]
    refine ⟨fun q => absurd q (by omega), fun _ => ?_⟩
    refine gCall.of (j_hash hk) (by decide) (by first | omega | decide) (by first | omega | decide) ?_
    rintro r G' ⟨rfl, rfl⟩
    have e0 := t4.hd
    cases B with
    | nil =>
      have e1 : gm G' tab b.toNat = .null := e0
      refine exS rfl 10 _ _ _ _ _ _ ?_
      simp (disch := first | omega | (simp only [gs_new, gs_put] <;> omega)) only [exB, Nat.reduceAdd, Nat.reduceSub, Nat.reduceMul, Nat.reduceLeDiff, Nat.reduceLT, Nat.reduceEqDiff, Nat.reduceBEq, Int.reduceAdd, Int.reduceSub, Int.reduceMul, Int.reduceNeg, Int.reduceToNat, Int.reduceLE, Int.reduceLT, Int.reduceEq, Int.reduceGE, Int.reduceGT, ↓reduceIte, reduceCtorEq, gm_pe, gm_pn, gc_put, gl_put, gs_put, exists_eq_left', exists_eq_left, gs_new, gc_ne, gc_nn, gl_ne, gl_nn, gm_ne, gm_nn, cd_J4_getNode, ha, t1, iI_rt, e1]
      exact ⟨by omega, by omega, hQ0⟩
    | cons e F =>
      obtain ⟨n1, n2, n3, n4, ⟨ke, n5, n7⟩, n8⟩ := hnB e List.mem_cons_self
      have he := n7.2.2.2
      have e1 : gm G' tab b.toNat = .ref (ea e) := e0
      rw [e1] at t4
      rw [lkp_cons] at hQ0
      by_cases h : ek e = z
      · rw [if_pos h] at hQ0
        refine exS rfl 24 _ _ _ _ _ _ ?_
        simp (disch := first | omega | (simp only [gs_new, gs_put] <;> omega)) only [exB, Nat.reduceAdd, Nat.reduceSub, Nat.reduceMul, Nat.reduceLeDiff, Nat.reduceLT, Nat.reduceEqDiff, Nat.reduceBEq, Int.reduceAdd, Int.reduceSub, Int.reduceMul, Int.reduceNeg, Int.reduceToNat, Int.reduceLE, Int.reduceLT, Int.reduceEq, Int.reduceGE, Int.reduceGT, ↓reduceIte, reduceCtorEq, gm_pe, gm_pn, gc_put, gl_put, gs_put, exists_eq_left', exists_eq_left, gs_new, gc_ne, gc_nn, gl_ne, gl_nn, gm_ne, gm_nn, cd_J4_getNode, ha, t1, iI_rt, e1, n3, n4, n5, h, hk.2.1]
        refine ⟨by omega, by omega, fun _ => hQ0, fun _ => ?_⟩
        rw [h] at n7
        refine gCall.of (c_equals hk n7) (by decide) (by first | omega | decide) (by first | omega | decide) ?_
        rintro r G' ⟨rfl, rfl⟩
        rw [if_pos rfl]
        refine exS rfl 6 _ _ _ _ _ _ ?_
        simp (disch := first | omega | (simp only [gs_new, gs_put] <;> omega)) only [exB, Nat.reduceAdd, Nat.reduceSub, Nat.reduceMul, Nat.reduceLeDiff, Nat.reduceLT, Nat.reduceEqDiff, Nat.reduceBEq, Int.reduceAdd, Int.reduceSub, Int.reduceMul, Int.reduceNeg, Int.reduceToNat, Int.reduceLE, Int.reduceLT, Int.reduceEq, Int.reduceGE, Int.reduceGT, ↓reduceIte, reduceCtorEq, gm_pe, gm_pn, gc_put, gl_put, gs_put, exists_eq_left', exists_eq_left, gs_new, gc_ne, gc_nn, gl_ne, gl_nn, gm_ne, gm_nn, cd_J4_getNode, iI_rt]
        exact hQ0
      · rw [if_neg h] at hQ0
        cases F with
        | nil =>
          have hnx : gm G' (ea e) 3 = .null := t4.2
          refine exS rfl 20 _ _ _ _ _ _ ?_
          simp (disch := first | omega | (simp only [gs_new, gs_put] <;> omega)) only [exB, Nat.reduceAdd, Nat.reduceSub, Nat.reduceMul, Nat.reduceLeDiff, Nat.reduceLT, Nat.reduceEqDiff, Nat.reduceBEq, Int.reduceAdd, Int.reduceSub, Int.reduceMul, Int.reduceNeg, Int.reduceToNat, Int.reduceLE, Int.reduceLT, Int.reduceEq, Int.reduceGE, Int.reduceGT, ↓reduceIte, reduceCtorEq, gm_pe, gm_pn, gc_put, gl_put, gs_put, exists_eq_left', exists_eq_left, gs_new, gc_ne, gc_nn, gl_ne, gl_nn, gm_ne, gm_nn, cd_J4_getNode, ha, t1, iI_rt, e1, n3, n4, n5, h, hnx]
          exact ⟨by omega, by omega, hQ0⟩
        | cons e2 F =>
          have hnx : gm G' (ea e) 3 = .ref (ea e2) := t4.2.1
          have t5 := t4.2
          rw [hnx] at t5
          refine excS rfl 82 40 _ _ _ _ _ _ ?_
          simp (disch := first | omega | (simp only [gs_new, gs_put] <;> omega)) only [exB, Nat.reduceAdd, Nat.reduceSub, Nat.reduceMul, Nat.reduceLeDiff, Nat.reduceLT, Nat.reduceEqDiff, Nat.reduceBEq, Int.reduceAdd, Int.reduceSub, Int.reduceMul, Int.reduceNeg, Int.reduceToNat, Int.reduceLE, Int.reduceLT, Int.reduceEq, Int.reduceGE, Int.reduceGT, ↓reduceIte, reduceCtorEq, gm_pe, gm_pn, gc_put, gl_put, gs_put, exists_eq_left', exists_eq_left, gs_new, gc_ne, gc_nn, gl_ne, gl_nn, gm_ne, gm_nn, cd_J4_getNode, ha, t1, iI_rt, e1, n3, n4, n5, h, hnx]
          refine ⟨by omega, by omega, w_instNo ⟨n3, q1020⟩ dJ4_getNode_82 ?_⟩
          refine excS rfl 99 40 _ _ _ _ _ _ ?_
          simp (disch := first | omega | (simp only [gs_new, gs_put] <;> omega)) only [exB, Nat.reduceAdd, Nat.reduceSub, Nat.reduceMul, Nat.reduceLeDiff, Nat.reduceLT, Nat.reduceEqDiff, Nat.reduceBEq, Int.reduceAdd, Int.reduceSub, Int.reduceMul, Int.reduceNeg, Int.reduceToNat, Int.reduceLE, Int.reduceLT, Int.reduceEq, Int.reduceGE, Int.reduceGT, ↓reduceIte, reduceCtorEq, gm_pe, gm_pn, gc_put, gl_put, gs_put, exists_eq_left', exists_eq_left, gs_new, gc_ne, gc_nn, gl_ne, gl_nn, gm_ne, gm_nn, cd_J4_getNode]
          exact gn_loop hk F e2 (fun e' he' => hnB e' (List.mem_cons_of_mem _ he')) t5 hQ0 _ _
end
