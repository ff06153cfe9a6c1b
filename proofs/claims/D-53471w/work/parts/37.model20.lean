/-! THE MODEL 20: counts; texts typed -/
set_option maxRecDepth 100000
set_option maxHeartbeats 4000000
section
variable {X : gX} {G : gH} {o : Nat} {N : Int → Int} {L : List (Int → Int)} {T : List Int} {M : Nat → Int → Int} {V : Nat → Int} {l : List Int} {K : Int}
theorem m_overNets {w : Int} (hR : MR G o M V) (hw : 0 ≤ w ∧ w < 9) (h5 : 0 ≤ M 0 5 ∧ M 0 5 ≤ 6) : Tri X 2 Y_X4_overNets [.ref o, .int (iI w)] 0 0 G (fun r G' => r = some (.int (iI (ovN (M 0) w))) ∧ G' = G) := by
  refine Tri.of (by decide +kernel) (Nat.le_of_ble_eq_true rfl) ?_
  generalize hQ : (fun (r : Option Value) G' => r = some (.int (iI (ovN (M 0) w))) ∧ G' = G) = Q
  refine excS rfl 4 4 _ _ _ _ _ _ ?_
  simp (disch := omega) only [exB, Nat.reduceAdd, Nat.reduceSub, Nat.reduceMul, Nat.reduceLeDiff, Nat.reduceLT, Nat.reduceEqDiff, Nat.reduceBEq, Int.reduceAdd, Int.reduceSub, Int.reduceMul, Int.reduceNeg, Int.reduceToNat, Int.reduceLE, Int.reduceLT, Int.reduceEq, Int.reduceGE, Int.reduceGT, ↓reduceIte, reduceCtorEq, gm_pe, gm_pn, gc_put, gl_put, gs_put, cd_X4_overNets]
  refine Wp.wk' [some (.ref o), some (.int (iI w)), some (.int (iI (sumI (fun n => M 0 (169 + 9 * n + w)) (0 : Int).toNat))), some (.int (iI 0))] ?_ (by simp [wkL, sumI])
  refine up0 (W := fun i => Wp X Y_X4_overNets 2 Q 0 0 G 4 [some (.ref o), some (.int (iI w)), some (.int (iI (sumI (fun n => M 0 (169 + 9 * n + w)) i.toNat))), some (.int (iI i))] []) (hi := M 0 5) 0 ?_ ?_ 0 (by decide) h5.1
  · intro i i0 i1 ih
    rw [sumI_s i0] at ih
    refine excS rfl 4 12 _ _ _ _ _ _ ?_
    simp (disch := omega) only [exB, Nat.reduceAdd, Nat.reduceSub, Nat.reduceMul, Nat.reduceLeDiff, Nat.reduceLT, Nat.reduceEqDiff, Nat.reduceBEq, Int.reduceAdd, Int.reduceSub, Int.reduceMul, Int.reduceNeg, Int.reduceToNat, Int.reduceLE, Int.reduceLT, Int.reduceEq, Int.reduceGE, Int.reduceGT, ↓reduceIte, reduceCtorEq, gm_pe, gm_pn, gc_put, gl_put, gs_put, cd_X4_overNets, hR.f, iI_rt]
    refine ⟨fun h => absurd h (by omega), fun _ => ?_⟩
    refine gCall.of (m_of hR (n := i) (w := w) (by omega)) (by decide) (by first | omega | decide) (by first | omega | decide) ?_
    rintro r G' ⟨rfl, rfl⟩
    refine excS rfl 4 12 _ _ _ _ _ _ ?_
    simp (disch := omega) only [exB, Nat.reduceAdd, Nat.reduceSub, Nat.reduceMul, Nat.reduceLeDiff, Nat.reduceLT, Nat.reduceEqDiff, Nat.reduceBEq, Int.reduceAdd, Int.reduceSub, Int.reduceMul, Int.reduceNeg, Int.reduceToNat, Int.reduceLE, Int.reduceLT, Int.reduceEq, Int.reduceGE, Int.reduceGT, ↓reduceIte, reduceCtorEq, gm_pe, gm_pn, gc_put, gl_put, gs_put, cd_X4_overNets, hR.f, iI_rt]
    exact ih
  · refine excS rfl 4 12 _ _ _ _ _ _ ?_
    subst hQ
    simp (disch := omega) only [exB, Nat.reduceAdd, Nat.reduceSub, Nat.reduceMul, Nat.reduceLeDiff, Nat.reduceLT, Nat.reduceEqDiff, Nat.reduceBEq, Int.reduceAdd, Int.reduceSub, Int.reduceMul, Int.reduceNeg, Int.reduceToNat, Int.reduceLE, Int.reduceLT, Int.reduceEq, Int.reduceGE, Int.reduceGT, ↓reduceIte, reduceCtorEq, gm_pe, gm_pn, gc_put, gl_put, gs_put, cd_X4_overNets, hR.f, iI_rt]
    exact ⟨fun _ => rfl, fun z => absurd (Int.le_refl _) z⟩
theorem m_cellsThat {a b : Int} (hR : MR G o M V) (ha : i32 a) (hb : i32 b) : Tri X 2 Y_X4_cellsThat [.ref o, .int (iI a), .int (iI b)] 0 0 G (fun r G' => r = some (.int (iI (celN (M 0) a b))) ∧ G' = G) := by
  refine Tri.of (by decide +kernel) (Nat.le_of_ble_eq_true rfl) ?_
  generalize hQ : (fun (r : Option Value) G' => r = some (.int (iI (celN (M 0) a b))) ∧ G' = G) = Q
  refine excS rfl 5 4 _ _ _ _ _ _ ?_
  simp (disch := omega) only [exB, Nat.reduceAdd, Nat.reduceSub, Nat.reduceMul, Nat.reduceLeDiff, Nat.reduceLT, Nat.reduceEqDiff, Nat.reduceBEq, Int.reduceAdd, Int.reduceSub, Int.reduceMul, Int.reduceNeg, Int.reduceToNat, Int.reduceLE, Int.reduceLT, Int.reduceEq, Int.reduceGE, Int.reduceGT, ↓reduceIte, reduceCtorEq, gm_pe, gm_pn, gc_put, gl_put, gs_put, cd_X4_cellsThat]
  refine Wp.wk' [some (.ref o), some (.int (iI a)), some (.int (iI b)), some (.int (iI (sumI (fun c => if a ≤ M 0 (7 + c) ∧ M 0 (7 + c) ≤ b then 1 else 0) (0 : Int).toNat))), some (.int (iI 0))] ?_ (by simp [wkL, sumI])
  refine up0 (W := fun i => Wp X Y_X4_cellsThat 2 Q 0 0 G 5 [some (.ref o), some (.int (iI a)), some (.int (iI b)), some (.int (iI (sumI (fun c => if a ≤ M 0 (7 + c) ∧ M 0 (7 + c) ≤ b then 1 else 0) i.toNat))), some (.int (iI i))] []) (hi := 162) 0 ?_ ?_ 0 (by decide) (by decide)
  · intro i i0 i1 ih
    rw [sumI_s i0] at ih
    have bz := hR.bA (z := 7 + i) (by omega) (by omega)
    refine excS rfl 5 12 _ _ _ _ _ _ ?_
    simp (disch := omega) only [exB, Nat.reduceAdd, Nat.reduceSub, Nat.reduceMul, Nat.reduceLeDiff, Nat.reduceLT, Nat.reduceEqDiff, Nat.reduceBEq, Int.reduceAdd, Int.reduceSub, Int.reduceMul, Int.reduceNeg, Int.reduceToNat, Int.reduceLE, Int.reduceLT, Int.reduceEq, Int.reduceGE, Int.reduceGT, ↓reduceIte, reduceCtorEq, gm_pe, gm_pn, gc_put, gl_put, gs_put, cd_X4_cellsThat, hR.f, iI_rt]
    refine ⟨fun q => absurd q (by omega), fun _ => ⟨by omega, by omega, ?_⟩⟩
    refine gCall.of (m_in bz ha hb) (by decide) (by first | omega | decide) (by first | omega | decide) ?_
    rintro r G' ⟨rfl, rfl⟩
    by_cases h : a ≤ M 0 (7 + i) ∧ M 0 (7 + i) ≤ b
    · rw [if_pos h] at ih ⊢
      refine excS rfl 5 12 _ _ _ _ _ _ ?_
      simp (disch := omega) only [exB, Nat.reduceAdd, Nat.reduceSub, Nat.reduceMul, Nat.reduceLeDiff, Nat.reduceLT, Nat.reduceEqDiff, Nat.reduceBEq, Int.reduceAdd, Int.reduceSub, Int.reduceMul, Int.reduceNeg, Int.reduceToNat, Int.reduceLE, Int.reduceLT, Int.reduceEq, Int.reduceGE, Int.reduceGT, ↓reduceIte, reduceCtorEq, gm_pe, gm_pn, gc_put, gl_put, gs_put, cd_X4_cellsThat, hR.f, iI_rt]
      exact ih
    · rw [if_neg h] at ih ⊢
      refine excS rfl 5 12 _ _ _ _ _ _ ?_
      simp (disch := omega) only [exB, Nat.reduceAdd, Nat.reduceSub, Nat.reduceMul, Nat.reduceLeDiff, Nat.reduceLT, Nat.reduceEqDiff, Nat.reduceBEq, Int.reduceAdd, Int.reduceSub, Int.reduceMul, Int.reduceNeg, Int.reduceToNat, Int.reduceLE, Int.reduceLT, Int.reduceEq, Int.reduceGE, Int.reduceGT, ↓reduceIte, reduceCtorEq, gm_pe, gm_pn, gc_put, gl_put, gs_put, cd_X4_cellsThat, hR.f, iI_rt]
      exact ih
  · refine excS rfl 5 12 _ _ _ _ _ _ ?_
    subst hQ
    simp (disch := omega) only [exB, Nat.reduceAdd, Nat.reduceSub, Nat.reduceMul, Nat.reduceLeDiff, Nat.reduceLT, Nat.reduceEqDiff, Nat.reduceBEq, Int.reduceAdd, Int.reduceSub, Int.reduceMul, Int.reduceNeg, Int.reduceToNat, Int.reduceLE, Int.reduceLT, Int.reduceEq, Int.reduceGE, Int.reduceGT, ↓reduceIte, reduceCtorEq, gm_pe, gm_pn, gc_put, gl_put, gs_put, cd_X4_cellsThat, hR.f, iI_rt]
    rfl
theorem m_crossings (hR : MR G o M V) : Tri X 2 Y_X4_crossings [.ref o] 0 0 G (fun r G' => r = some (.int (iI (crsN (M 0)))) ∧ G' = G) := by
  refine Tri.of (by decide +kernel) (Nat.le_of_ble_eq_true rfl) ?_
  generalize hQ : (fun (r : Option Value) G' => r = some (.int (iI (crsN (M 0)))) ∧ G' = G) = Q
  refine excS rfl 4 4 _ _ _ _ _ _ ?_
  simp (disch := omega) only [exB, Nat.reduceAdd, Nat.reduceSub, Nat.reduceMul, Nat.reduceLeDiff, Nat.reduceLT, Nat.reduceEqDiff, Nat.reduceBEq, Int.reduceAdd, Int.reduceSub, Int.reduceMul, Int.reduceNeg, Int.reduceToNat, Int.reduceLE, Int.reduceLT, Int.reduceEq, Int.reduceGE, Int.reduceGT, ↓reduceIte, reduceCtorEq, gm_pe, gm_pn, gc_put, gl_put, gs_put, cd_X4_crossings]
  refine Wp.wk' [some (.ref o), some (.int (iI (sumI (fun p => if (1 ≤ M 0 (7 + p) ∧ M 0 (7 + p) ≤ 6) ∧ (1 ≤ M 0 (88 + p) ∧ M 0 (88 + p) ≤ 6) ∧ M 0 (7 + p) ≠ M 0 (88 + p) then 1 else 0) (0 : Int).toNat))), some (.int (iI 0)), none, none] ?_ (by simp [wkL, sumI])
  refine up0 (W := fun i => Wp X Y_X4_crossings 2 Q 0 0 G 4 [some (.ref o), some (.int (iI (sumI (fun p => if (1 ≤ M 0 (7 + p) ∧ M 0 (7 + p) ≤ 6) ∧ (1 ≤ M 0 (88 + p) ∧ M 0 (88 + p) ≤ 6) ∧ M 0 (7 + p) ≠ M 0 (88 + p) then 1 else 0) i.toNat))), some (.int (iI i)), none, none] []) (hi := 81) 0 ?_ ?_ 0 (by decide) (by decide)
  · intro i i0 i1 ih
    rw [sumI_s i0] at ih
    have b1 := hR.bA (z := 7 + i) (by omega) (by omega)
    have b2 := hR.bA (z := 88 + i) (by omega) (by omega)
    have nx : ∀ x u v, x = sumI (fun p => if (1 ≤ M 0 (7 + p) ∧ M 0 (7 + p) ≤ 6) ∧ (1 ≤ M 0 (88 + p) ∧ M 0 (88 + p) ≤ 6) ∧ M 0 (7 + p) ≠ M 0 (88 + p) then 1 else 0) i.toNat + (if (1 ≤ M 0 (7 + i) ∧ M 0 (7 + i) ≤ 6) ∧ (1 ≤ M 0 (88 + i) ∧ M 0 (88 + i) ≤ 6) ∧ M 0 (7 + i) ≠ M 0 (88 + i) then 1 else 0) → Wp X Y_X4_crossings 2 Q 0 0 G 4 [some (.ref o), some (.int (iI x)), some (.int (iI (i + 1))), u, v] [] := fun x u v h => by rw [h]; exact ih.wk' _ (by simp [wkL])
    generalize sumI (fun p => if (1 ≤ M 0 (7 + p) ∧ M 0 (7 + p) ≤ 6) ∧ (1 ≤ M 0 (88 + p) ∧ M 0 (88 + p) ≤ 6) ∧ M 0 (7 + p) ≠ M 0 (88 + p) then 1 else 0) i.toNat = s at nx ⊢
    refine excS rfl 4 24 _ _ _ _ _ _ ?_
    simp (disch := omega) only [exB, Nat.reduceAdd, Nat.reduceSub, Nat.reduceMul, Nat.reduceLeDiff, Nat.reduceLT, Nat.reduceEqDiff, Nat.reduceBEq, Int.reduceAdd, Int.reduceSub, Int.reduceMul, Int.reduceNeg, Int.reduceToNat, Int.reduceLE, Int.reduceLT, Int.reduceEq, Int.reduceGE, Int.reduceGT, ↓reduceIte, reduceCtorEq, gm_pe, gm_pn, gc_put, gl_put, gs_put, cd_X4_crossings, hR.f, iI_rt]
    refine ⟨fun q => absurd q (by omega), fun _ => ⟨by omega, by omega, by omega, by omega, ?_⟩⟩
    refine gCall.of (m_in b1 (a := 1) (b := 6) (by decide) (by decide)) (by decide) (by first | omega | decide) (by first | omega | decide) ?_
    rintro r G' ⟨rfl, rfl⟩
    by_cases h1 : 1 ≤ M 0 (7 + i) ∧ M 0 (7 + i) ≤ 6
    case neg =>
      rw [if_neg h1]
      refine excS rfl 4 12 _ _ _ _ _ _ ?_
      simp (disch := omega) only [exB, Nat.reduceAdd, Nat.reduceSub, Nat.reduceMul, Nat.reduceLeDiff, Nat.reduceLT, Nat.reduceEqDiff, Nat.reduceBEq, Int.reduceAdd, Int.reduceSub, Int.reduceMul, Int.reduceNeg, Int.reduceToNat, Int.reduceLE, Int.reduceLT, Int.reduceEq, Int.reduceGE, Int.reduceGT, ↓reduceIte, reduceCtorEq, gm_pe, gm_pn, gc_put, gl_put, gs_put, cd_X4_crossings, hR.f, iI_rt]
      exact nx _ _ _ (by rw [if_neg (fun q => h1 q.1)])
    rw [if_pos h1]
    refine excS rfl 4 12 _ _ _ _ _ _ ?_
    simp (disch := omega) only [exB, Nat.reduceAdd, Nat.reduceSub, Nat.reduceMul, Nat.reduceLeDiff, Nat.reduceLT, Nat.reduceEqDiff, Nat.reduceBEq, Int.reduceAdd, Int.reduceSub, Int.reduceMul, Int.reduceNeg, Int.reduceToNat, Int.reduceLE, Int.reduceLT, Int.reduceEq, Int.reduceGE, Int.reduceGT, ↓reduceIte, reduceCtorEq, gm_pe, gm_pn, gc_put, gl_put, gs_put, cd_X4_crossings, hR.f, iI_rt]
    refine gCall.of (m_in b2 (a := 1) (b := 6) (by decide) (by decide)) (by decide) (by first | omega | decide) (by first | omega | decide) ?_
    rintro r G' ⟨rfl, rfl⟩
    by_cases h2 : 1 ≤ M 0 (88 + i) ∧ M 0 (88 + i) ≤ 6
    case neg =>
      rw [if_neg h2]
      refine excS rfl 4 12 _ _ _ _ _ _ ?_
      simp (disch := omega) only [exB, Nat.reduceAdd, Nat.reduceSub, Nat.reduceMul, Nat.reduceLeDiff, Nat.reduceLT, Nat.reduceEqDiff, Nat.reduceBEq, Int.reduceAdd, Int.reduceSub, Int.reduceMul, Int.reduceNeg, Int.reduceToNat, Int.reduceLE, Int.reduceLT, Int.reduceEq, Int.reduceGE, Int.reduceGT, ↓reduceIte, reduceCtorEq, gm_pe, gm_pn, gc_put, gl_put, gs_put, cd_X4_crossings, hR.f, iI_rt]
      exact nx _ _ _ (by rw [if_neg (fun q => h2 q.2.1)])
    rw [if_pos h2]
    refine excS rfl 4 12 _ _ _ _ _ _ ?_
    simp (disch := omega) only [exB, Nat.reduceAdd, Nat.reduceSub, Nat.reduceMul, Nat.reduceLeDiff, Nat.reduceLT, Nat.reduceEqDiff, Nat.reduceBEq, Int.reduceAdd, Int.reduceSub, Int.reduceMul, Int.reduceNeg, Int.reduceToNat, Int.reduceLE, Int.reduceLT, Int.reduceEq, Int.reduceGE, Int.reduceGT, ↓reduceIte, reduceCtorEq, gm_pe, gm_pn, gc_put, gl_put, gs_put, cd_X4_crossings, hR.f, iI_rt]
    refine ⟨fun q => nx _ _ _ (by rw [if_neg (fun z => z.2.2 q)]), fun q => nx _ _ _ (by rw [if_pos ⟨h1, h2, q⟩])⟩
  · refine excS rfl 4 12 _ _ _ _ _ _ ?_
    subst hQ
    simp (disch := omega) only [exB, Nat.reduceAdd, Nat.reduceSub, Nat.reduceMul, Nat.reduceLeDiff, Nat.reduceLT, Nat.reduceEqDiff, Nat.reduceBEq, Int.reduceAdd, Int.reduceSub, Int.reduceMul, Int.reduceNeg, Int.reduceToNat, Int.reduceLE, Int.reduceLT, Int.reduceEq, Int.reduceGE, Int.reduceGT, ↓reduceIte, reduceCtorEq, gm_pe, gm_pn, gc_put, gl_put, gs_put, cd_X4_crossings, hR.f, iI_rt]
    rfl
theorem m_count {w : Int} (hM : MS G o N L T) (hB : RowB K N) (hw : i32 w) : Tri X 3 Y_X4_count [.ref o, .int (iI w)] 0 0 G (MOut G o N L T (cntZ N L.length T.length w) none) := by
  obtain ⟨M, V, hR, rfl, hL, hT⟩ := hM.get
  have h6 := hB.2.1.2
  have h5 := hB.2.1.1
  have v5 := hL.1
  have v7 := hT.1
  refine Tri.of (by decide +kernel) (Nat.le_of_ble_eq_true rfl) ?_
  generalize hQ : MOut G o (M 0) L T (cntZ (M 0) L.length T.length w) none = Q
  have fin : ∀ z, cntZ (M 0) L.length T.length w = z → Q (some (.int (iI z))) G := by
    intro z hz; subst hQ; exact ⟨by rw [hz], MK.refl, hM⟩
  unfold cntZ at fin
  refine exS rfl 10 _ _ _ _ _ _ ?_
  simp (disch := omega) only [exB, Nat.reduceAdd, Nat.reduceSub, Nat.reduceMul, Nat.reduceLeDiff, Nat.reduceLT, Nat.reduceEqDiff, Nat.reduceBEq, Int.reduceAdd, Int.reduceSub, Int.reduceMul, Int.reduceNeg, Int.reduceToNat, Int.reduceLE, Int.reduceLT, Int.reduceEq, Int.reduceGE, Int.reduceGT, ↓reduceIte, reduceCtorEq, gm_pe, gm_pn, gc_put, gl_put, gs_put, cd_X4_count, hR.f, iI_rt]
  refine ⟨rfl, fun q => ?_, fun q => ?_, fun q => ?_, fun q => ?_, fun q => ?_, fun q => ?_, fun q => ?_, fun q => ?_, fun q => ?_, fun q => ?_, fun q => ?_, fun q => ?_, fun q => ?_, fun q => ?_, fun q => ?_, fun q => ?_, fun q => ?_, fun q => ?_, fun q => ?_, fun q => ?_, fun q => ?_, fun q => ?_, fun q => ?_, fun q => ?_, fun q => ?_⟩
  case refine_1 => exact fin _ (by repeat (first | rw [if_neg (by omega)] | rfl))
  all_goals first
    | subst q
      exact fin _ rfl
    | skip
  case refine_3 =>
    subst q
    refine gCall.of (m_overNets hR (w := 5) (by decide) h5) (by decide) (by first | omega | decide) (by first | omega | decide) ?_
    rintro r G' ⟨rfl, rfl⟩
    refine exS rfl 2 _ _ _ _ _ _ ?_
    simp (disch := omega) only [exB, Nat.reduceAdd, Nat.reduceSub, Nat.reduceMul, Nat.reduceLeDiff, Nat.reduceLT, Nat.reduceEqDiff, Nat.reduceBEq, Int.reduceAdd, Int.reduceSub, Int.reduceMul, Int.reduceNeg, Int.reduceToNat, Int.reduceLE, Int.reduceLT, Int.reduceEq, Int.reduceGE, Int.reduceGT, ↓reduceIte, reduceCtorEq, gm_pe, gm_pn, gc_put, gl_put, gs_put, cd_X4_count]
    exact fin _ rfl
  case refine_4 =>
    subst q
    refine gCall.of (m_blockedMany hR) (by decide) (by first | omega | decide) (by first | omega | decide) ?_
    rintro r G' ⟨rfl, rfl⟩
    refine exS rfl 2 _ _ _ _ _ _ ?_
    simp (disch := omega) only [exB, Nat.reduceAdd, Nat.reduceSub, Nat.reduceMul, Nat.reduceLeDiff, Nat.reduceLT, Nat.reduceEqDiff, Nat.reduceBEq, Int.reduceAdd, Int.reduceSub, Int.reduceMul, Int.reduceNeg, Int.reduceToNat, Int.reduceLE, Int.reduceLT, Int.reduceEq, Int.reduceGE, Int.reduceGT, ↓reduceIte, reduceCtorEq, gm_pe, gm_pn, gc_put, gl_put, gs_put, cd_X4_count]
    exact fin _ rfl
  case refine_5 =>
    subst q
    refine gCall.of (m_cellsThat hR (a := 0) (b := 0) (by decide) (by decide)) (by decide) (by first | omega | decide) (by first | omega | decide) ?_
    rintro r G' ⟨rfl, rfl⟩
    refine exS rfl 2 _ _ _ _ _ _ ?_
    simp (disch := omega) only [exB, Nat.reduceAdd, Nat.reduceSub, Nat.reduceMul, Nat.reduceLeDiff, Nat.reduceLT, Nat.reduceEqDiff, Nat.reduceBEq, Int.reduceAdd, Int.reduceSub, Int.reduceMul, Int.reduceNeg, Int.reduceToNat, Int.reduceLE, Int.reduceLT, Int.reduceEq, Int.reduceGE, Int.reduceGT, ↓reduceIte, reduceCtorEq, gm_pe, gm_pn, gc_put, gl_put, gs_put, cd_X4_count]
    exact fin _ rfl
  case refine_7 =>
    subst q
    refine gCall.of (m_appealMany hR h6) (by decide) (by first | omega | decide) (by first | omega | decide) ?_
    rintro r G' ⟨rfl, rfl⟩
    refine exS rfl 2 _ _ _ _ _ _ ?_
    simp (disch := omega) only [exB, Nat.reduceAdd, Nat.reduceSub, Nat.reduceMul, Nat.reduceLeDiff, Nat.reduceLT, Nat.reduceEqDiff, Nat.reduceBEq, Int.reduceAdd, Int.reduceSub, Int.reduceMul, Int.reduceNeg, Int.reduceToNat, Int.reduceLE, Int.reduceLT, Int.reduceEq, Int.reduceGE, Int.reduceGT, ↓reduceIte, reduceCtorEq, gm_pe, gm_pn, gc_put, gl_put, gs_put, cd_X4_count]
    exact fin _ rfl
  case refine_9 =>
    subst q
    refine gCall.of (m_overNets hR (w := 4) (by decide) h5) (by decide) (by first | omega | decide) (by first | omega | decide) ?_
    rintro r G' ⟨rfl, rfl⟩
    refine exS rfl 2 _ _ _ _ _ _ ?_
    simp (disch := omega) only [exB, Nat.reduceAdd, Nat.reduceSub, Nat.reduceMul, Nat.reduceLeDiff, Nat.reduceLT, Nat.reduceEqDiff, Nat.reduceBEq, Int.reduceAdd, Int.reduceSub, Int.reduceMul, Int.reduceNeg, Int.reduceToNat, Int.reduceLE, Int.reduceLT, Int.reduceEq, Int.reduceGE, Int.reduceGT, ↓reduceIte, reduceCtorEq, gm_pe, gm_pn, gc_put, gl_put, gs_put, cd_X4_count]
    exact fin _ rfl
  case refine_10 =>
    subst q
    refine gCall.of (m_cellsThat hR (a := 1) (b := 6) (by decide) (by decide)) (by decide) (by first | omega | decide) (by first | omega | decide) ?_
    rintro r G' ⟨rfl, rfl⟩
    refine exS rfl 2 _ _ _ _ _ _ ?_
    simp (disch := omega) only [exB, Nat.reduceAdd, Nat.reduceSub, Nat.reduceMul, Nat.reduceLeDiff, Nat.reduceLT, Nat.reduceEqDiff, Nat.reduceBEq, Int.reduceAdd, Int.reduceSub, Int.reduceMul, Int.reduceNeg, Int.reduceToNat, Int.reduceLE, Int.reduceLT, Int.reduceEq, Int.reduceGE, Int.reduceGT, ↓reduceIte, reduceCtorEq, gm_pe, gm_pn, gc_put, gl_put, gs_put, cd_X4_count]
    exact fin _ rfl
  case refine_11 =>
    subst q
    refine gCall.of (m_crossings hR) (by decide) (by first | omega | decide) (by first | omega | decide) ?_
    rintro r G' ⟨rfl, rfl⟩
    refine exS rfl 2 _ _ _ _ _ _ ?_
    simp (disch := omega) only [exB, Nat.reduceAdd, Nat.reduceSub, Nat.reduceMul, Nat.reduceLeDiff, Nat.reduceLT, Nat.reduceEqDiff, Nat.reduceBEq, Int.reduceAdd, Int.reduceSub, Int.reduceMul, Int.reduceNeg, Int.reduceToNat, Int.reduceLE, Int.reduceLT, Int.reduceEq, Int.reduceGE, Int.reduceGT, ↓reduceIte, reduceCtorEq, gm_pe, gm_pn, gc_put, gl_put, gs_put, cd_X4_count]
    exact fin _ rfl
  case refine_12 =>
    rw [v5]; subst q; exact fin _ rfl
  case refine_13 =>
    rw [v7]; subst q; exact fin _ rfl
  case refine_22 =>
    subst q
    simp (disch := omega) only [exB, Nat.reduceAdd, Nat.reduceSub, Nat.reduceMul, Nat.reduceLeDiff, Nat.reduceLT, Nat.reduceEqDiff, Nat.reduceBEq, Int.reduceAdd, Int.reduceSub, Int.reduceMul, Int.reduceNeg, Int.reduceToNat, Int.reduceLE, Int.reduceLT, Int.reduceEq, Int.reduceGE, Int.reduceGT, ↓reduceIte, reduceCtorEq, gm_pe, gm_pn, gc_put, gl_put, gs_put, cd_X4_count, hR.f, iI_rt]
    exact fin _ rfl
  case refine_23 =>
    subst q
    simp (disch := omega) only [exB, Nat.reduceAdd, Nat.reduceSub, Nat.reduceMul, Nat.reduceLeDiff, Nat.reduceLT, Nat.reduceEqDiff, Nat.reduceBEq, Int.reduceAdd, Int.reduceSub, Int.reduceMul, Int.reduceNeg, Int.reduceToNat, Int.reduceLE, Int.reduceLT, Int.reduceEq, Int.reduceGE, Int.reduceGT, ↓reduceIte, reduceCtorEq, gm_pe, gm_pn, gc_put, gl_put, gs_put, cd_X4_count, hR.f, iI_rt]
    exact fin _ rfl
  case refine_24 =>
    subst q
    simp (disch := omega) only [exB, Nat.reduceAdd, Nat.reduceSub, Nat.reduceMul, Nat.reduceLeDiff, Nat.reduceLT, Nat.reduceEqDiff, Nat.reduceBEq, Int.reduceAdd, Int.reduceSub, Int.reduceMul, Int.reduceNeg, Int.reduceToNat, Int.reduceLE, Int.reduceLT, Int.reduceEq, Int.reduceGE, Int.reduceGT, ↓reduceIte, reduceCtorEq, gm_pe, gm_pn, gc_put, gl_put, gs_put, cd_X4_count, hR.f, iI_rt]
    exact fin _ rfl
  case refine_25 =>
    subst q
    simp (disch := omega) only [exB, Nat.reduceAdd, Nat.reduceSub, Nat.reduceMul, Nat.reduceLeDiff, Nat.reduceLT, Nat.reduceEqDiff, Nat.reduceBEq, Int.reduceAdd, Int.reduceSub, Int.reduceMul, Int.reduceNeg, Int.reduceToNat, Int.reduceLE, Int.reduceLT, Int.reduceEq, Int.reduceGE, Int.reduceGT, ↓reduceIte, reduceCtorEq, gm_pe, gm_pn, gc_put, gl_put, gs_put, cd_X4_count, hR.f, iI_rt]
    exact fin _ rfl
theorem m_clearText (hM : MS G o N L T) : Tri X 1 Y_X4_clearText [.ref o] 0 0 G (fun r G' => r = some (.int (iI T.length)) ∧ MK G G' o ∧ MS G' o N L []) := by
  obtain ⟨M, V, hR, rfl, hL, hT⟩ := hM.get
  have v7 := hT.1
  have h1 := hR.putV (f := 7) (v := 0) (by decide) (by decide)
  refine Tri.of (by decide +kernel) (Nat.le_of_ble_eq_true rfl) ?_
  refine exS rfl 12 _ _ _ _ _ _ ?_
  simp (disch := omega) only [exB, Nat.reduceAdd, Nat.reduceSub, Nat.reduceMul, Nat.reduceLeDiff, Nat.reduceLT, Nat.reduceEqDiff, Nat.reduceBEq, Int.reduceAdd, Int.reduceSub, Int.reduceMul, Int.reduceNeg, Int.reduceToNat, Int.reduceLE, Int.reduceLT, Int.reduceEq, Int.reduceGE, Int.reduceGT, ↓reduceIte, reduceCtorEq, gm_pe, gm_pn, gc_put, gl_put, gs_put, cd_X4_clearText, hR.f, iI_rt]
  refine ⟨by rw [v7], MK.refl.put (by omega), MS.mk h1 rfl ⟨by rw [uV_n (by decide)]; exact hL.1, hL.2.1, by rw [uV_n (by decide)]; exact hL.2.2.1, by rw [uV_n (by decide)]; exact hL.2.2.2⟩ ⟨uV_s, by simp, fun k c h => by simp at h⟩⟩
theorem m_type {c : Int} (hM : MS G o N L T) (hc : i32 c) : Tri X 2 Y_X4_type [.ref o, .int (iI c)] 0 0 G (fun r G' => r = some (.int (iI (if 32 ≤ c ∧ c ≤ 126 then (if T.length = 60 then -1000003 else T.length + 1) else -1000001))) ∧ MK G G' o ∧ MS G' o N L (if (32 ≤ c ∧ c ≤ 126) ∧ T.length ≠ 60 then T ++ [c] else T)) := by
  obtain ⟨M, V, hR, rfl, hL, hT⟩ := hM.get
  obtain ⟨t1, t2, t3⟩ := hT
  refine Tri.of (by decide +kernel) (Nat.le_of_ble_eq_true rfl) ?_
  generalize hQ : (fun (r : Option Value) G' => r = some (.int (iI (if 32 ≤ c ∧ c ≤ 126 then (if T.length = 60 then -1000003 else T.length + 1) else -1000001))) ∧ MK G G' o ∧ MS G' o (M 0) L (if (32 ≤ c ∧ c ≤ 126) ∧ T.length ≠ 60 then T ++ [c] else T)) = Q
  refine exS rfl 6 _ _ _ _ _ _ ?_
  simp (disch := omega) only [exB, Nat.reduceAdd, Nat.reduceSub, Nat.reduceMul, Nat.reduceLeDiff, Nat.reduceLT, Nat.reduceEqDiff, Nat.reduceBEq, Int.reduceAdd, Int.reduceSub, Int.reduceMul, Int.reduceNeg, Int.reduceToNat, Int.reduceLE, Int.reduceLT, Int.reduceEq, Int.reduceGE, Int.reduceGT, ↓reduceIte, reduceCtorEq, gm_pe, gm_pn, gc_put, gl_put, gs_put, cd_X4_type, hR.f]
  refine gCall.of (m_in hc (by decide) (by decide)) (by decide) (by first | omega | decide) (by first | omega | decide) ?_
  rintro r G' ⟨rfl, rfl⟩
  by_cases h : 32 ≤ c ∧ c ≤ 126
  case neg =>
    rw [if_neg h]
    refine exS rfl 6 _ _ _ _ _ _ ?_
    simp (disch := omega) only [exB, Nat.reduceAdd, Nat.reduceSub, Nat.reduceMul, Nat.reduceLeDiff, Nat.reduceLT, Nat.reduceEqDiff, Nat.reduceBEq, Int.reduceAdd, Int.reduceSub, Int.reduceMul, Int.reduceNeg, Int.reduceToNat, Int.reduceLE, Int.reduceLT, Int.reduceEq, Int.reduceGE, Int.reduceGT, ↓reduceIte, reduceCtorEq, gm_pe, gm_pn, gc_put, gl_put, gs_put, cd_X4_type, hR.f, iI_rt]
    subst hQ
    refine ⟨by rw [if_neg h], MK.refl, by rw [if_neg (fun q => h q.1)]; exact hM⟩
  rw [if_pos h]
  refine exS rfl 30 _ _ _ _ _ _ ?_
  simp (disch := omega) only [exB, Nat.reduceAdd, Nat.reduceSub, Nat.reduceMul, Nat.reduceLeDiff, Nat.reduceLT, Nat.reduceEqDiff, Nat.reduceBEq, Int.reduceAdd, Int.reduceSub, Int.reduceMul, Int.reduceNeg, Int.reduceToNat, Int.reduceLE, Int.reduceLT, Int.reduceEq, Int.reduceGE, Int.reduceGT, ↓reduceIte, reduceCtorEq, gm_pe, gm_pn, gc_put, gl_put, gs_put, cd_X4_type, hR.f, iI_rt, t1]
  subst hQ
  refine ⟨fun q => ⟨by omega, by omega, ?_⟩, fun q => ?_⟩
  · have hq : T.length ≠ 60 := by omega
    have h1 := (hR.putA 4 (z := T.length) (v := c) (by decide) (by omega) hc).putV (f := 7) (v := T.length + 1) (by decide) (by omega)
    rw [uM_00] at h1
    refine ⟨by rw [if_pos h, if_neg hq], (MK.refl.put (by omega)).put (by omega), ?_⟩
    rw [if_pos ⟨h, hq⟩]
    refine MS.mk h1 (setF_n (by decide)) ⟨by rw [uV_n (by decide)]; exact hL.1, hL.2.1, by rw [uV_n (by decide)]; exact hL.2.2.1, ?_⟩ ⟨by rw [uV_s]; simp, by simp; omega, fun k x hk => ?_⟩
    · rw [uV_n (by decide), setF_n (by decide)]; exact hL.2.2.2
    · rw [setF_s]
      unfold uN
      by_cases hkl : k < T.length
      · rw [List.getElem?_append_left hkl] at hk
        rw [if_neg (by omega)]
        exact t3 k x hk
      · rw [List.getElem?_append_right (by omega)] at hk
        have : k - T.length = 0 := by
          have := (List.getElem?_eq_some_iff.mp hk).1
          simp at this; omega
        rw [this] at hk
        simp at hk
        rw [if_pos (by omega), hk]
  · have hq : T.length = 60 := by omega
    refine ⟨by rw [if_pos h, if_pos hq], MK.refl, ?_⟩
    rw [if_neg (fun z => z.2 hq)]
    exact hM
end
