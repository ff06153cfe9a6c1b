/-! THE MODEL 17: the acts, recorded (written by tools/gen_acts.py) -/
set_option maxRecDepth 100000
set_option maxHeartbeats 4000000
abbrev cpM0 (M : Nat → Int → Int) : Nat → Int → Int := fun f j => if f = 1 ∧ 0 ≤ j ∧ j < 379 then M 0 j else M f j
theorem cpM0_n {M : Nat → Int → Int} {f : Nat} (h : f ≠ 1) : cpM0 M f = M f := by funext j; unfold cpM0; rw [if_neg (fun q => h q.1)]
section
variable {X : gX} {G : gH} {o : Nat} {N : Int → Int} {L : List (Int → Int)} {T : List Int} {M : Nat → Int → Int} {V : Nat → Int} {l : List Int} {K : Int}
/-- what an answer of an inner call makes of the whole -/
theorem act_rec {G G1 G2 : gH} {M' : Nat → Int → Int} {V' : Nat → Int} {z : Int} {N' : Int → Int} (hL : HistOK M V L) (hT : TextOK M V T) (hz : i32 z) (hn : z < 0 → N' = M 0) (hk1 : MK G G1 o) (hk2 : MK G1 G2 o) (hR : MR G2 o M' V') (e0 : M' 0 = N') (hf : ∀ f, f ≠ 0 → f ≠ 8 → f ≠ 9 → f ≠ 10 → M' f = cpM0 M f) (hv : ∀ f, f ≠ 11 → f ≠ 12 → f ≠ 13 → V' f = V f) : Tri X 1 Y_X4_recorded [.ref o, .int (iI z)] 0 0 G2 (fun r G3 => MOut G o (M 0) L T z (if 0 ≤ z then some N' else none) r G3) := by
  have e3 : M' 3 = M 3 := by rw [hf 3 (by decide) (by decide) (by decide) (by decide), cpM0_n (by decide)]
  have e4 : M' 4 = M 4 := by rw [hf 4 (by decide) (by decide) (by decide) (by decide), cpM0_n (by decide)]
  have e5 : V' 5 = V 5 := hv 5 (by decide) (by decide) (by decide)
  have e6 : V' 6 = V 6 := hv 6 (by decide) (by decide) (by decide)
  have e7 : V' 7 = V 7 := hv 7 (by decide) (by decide) (by decide)
  have hb := hL.b
  by_cases h : 0 ≤ z
  · refine Tri.mono (k' := 0) (n' := 0) (d' := 0) (m_recorded hR h hz (by rw [e6]; exact hb.1) (by rw [e5]; exact hb.2)) ?_
    rintro r G3 ⟨rfl, hk3, hR3⟩
    rw [if_pos h]
    refine ⟨rfl, (hk1.trans hk2).trans hk3, MS.recN hR3 (fun j => by rw [e0]) ?_ hL hT (fun j => by rw [e3]) (fun j => by rw [e4]) e5 e6 e7⟩
    intro j j0 j1
    rw [hf 1 (by decide) (by decide) (by decide) (by decide)]
    show (if (1 : Nat) = 1 ∧ 0 ≤ j ∧ j < 379 then M 0 j else M 1 j) = M 0 j
    rw [if_pos ⟨rfl, j0, j1⟩]
  · refine Tri.mono (k' := 0) (n' := 0) (d' := 0) (m_recordedN (by omega) hz) ?_
    rintro r G3 ⟨rfl, rfl⟩
    rw [if_neg h]
    exact ⟨rfl, hk1.trans hk2, MS.same hR (fun j j0 j1 => by rw [e0, hn (by omega)]) hL hT e3 e4 e5 e6 e7⟩
theorem layZ_b {N : Int → Int} {n : Int} {R : Option (List Int × Int)} (hB : RowB K N) (hRR : isN N n → ¬ jnd N n → RouteR N n 0 R) : i32 (layZ N n R) ∧ (layZ N n R < 0 → layN N n R = N) := by
  unfold layZ layN
  have h5 := hB.2.1.1
  by_cases h : isN N n
  · rw [if_pos h]
    by_cases hj : jnd N n
    · rw [if_pos hj, if_neg (fun q => q.2 hj)]; exact ⟨by decide, fun _ => rfl⟩
    · rw [if_neg hj, if_pos ⟨h, hj⟩]
      have nb := hB.2.2.2.2.2.1 n h.1 (by omega)
      have hr := hRR h hj
      match R, hr with
      | none, _ => exact ⟨by decide, fun _ => rfl⟩
      | some (l, c), hr =>
        have := hr.b nb.2.1 nb.2.2.1.2
        dsimp only
        exact ⟨by omega, fun z => absurd z (by omega)⟩
  · rw [if_neg h, if_neg (fun q => h q.1)]; exact ⟨by decide, fun _ => rfl⟩
theorem digZ_b {N : Int → Int} {n : Int} {R : Option (List Int × Int)} (hB : RowB K N) : i32 (digZ N n R) ∧ (digZ N n R < 0 → digN N n R = N) := by
  have h5 := hB.2.1.1
  unfold digZ digN
  by_cases h : digE N n R = 0
  · rw [if_pos h, if_pos h]
    match R with
    | none => dsimp only; exact ⟨by decide, fun _ => rfl⟩
    | some (l, c) =>
      have := sumI_bb (f := dueN N l) (b := 9558) (N 5).toNat (fun j hj => dueN_b hB.2.2.1.2.1 (hB.2.2.2.2.2.1 j (by omega) (by omega)).2.2.2.1)
      dsimp only
      unfold duesN
      exact ⟨by omega, fun z => absurd z (by omega)⟩
  · rw [if_neg h, if_neg h]
    refine ⟨?_, fun _ => rfl⟩
    unfold digE
    split
    · split
      · decide
      · split
        · decide
        · split
          · decide
          · split <;> decide
    · decide
theorem ripZ_b {N : Int → Int} {n : Int} : i32 (ripZ N n) ∧ (ripZ N n < 0 → ripN N n = N) := by
  have := wireC_b (N := N) (n := n)
  unfold ripZ ripN
  by_cases h : isN N n
  · rw [if_pos h]
    by_cases hj : jnd N n
    · rw [if_pos hj]; exact ⟨by omega, fun z => absurd z (by omega)⟩
    · rw [if_neg hj, if_neg (fun q => hj q.2)]; exact ⟨by decide, fun _ => rfl⟩
  · rw [if_neg h, if_neg (fun q => h q.1)]; exact ⟨by decide, fun _ => rfl⟩
theorem appZ_b {N : Int → Int} {c : Int} (hB : RowB K N) : i32 (appZ N c) ∧ (appZ N c < 0 → appN N c = N) := by
  have h6 := hB.2.1.2
  unfold appZ appN
  by_cases h : isC N c
  · rw [if_pos h]
    by_cases hj : clA N c 5 = 0 ∧ N 4 - clA N c 6 ≤ N 3
    · rw [if_pos hj]
      have e6 : uN N (223 + 13 * c + 5) 1 6 = N 6 := by unfold uN; rw [if_neg (by omega)]
      have := sumI_b (f := fun d => if clA (uN N (223 + 13 * c + 5) 1) d 5 = 1 then 1 else 0) (fun i => by split <;> decide) (uN N (223 + 13 * c + 5) 1 6).toNat
      unfold appC
      exact ⟨by omega, fun z => absurd z (by omega)⟩
    · rw [if_neg hj, if_neg (fun q => hj q.2)]; exact ⟨by decide, fun _ => rfl⟩
  · rw [if_neg h, if_neg (fun q => h q.1)]; exact ⟨by decide, fun _ => rfl⟩
theorem passZ_b {N : Int → Int} {a : Int} (hB : RowB K N) : i32 (passZ N a) ∧ (passZ N a < 0 → passN N a = N) := by
  have h4 := hB.2.2.2.1
  unfold passZ passN
  by_cases h : 1 ≤ a ∧ a ≤ 50
  · rw [if_pos h]
    by_cases hj : N 4 + a > 100000
    · rw [if_pos hj, if_neg (fun q => q.2 hj)]; exact ⟨by decide, fun _ => rfl⟩
    · rw [if_neg hj]; exact ⟨by omega, fun z => absurd z (by omega)⟩
  · rw [if_neg h, if_neg (fun q => h q.1)]; exact ⟨by decide, fun _ => rfl⟩
theorem hearZ_b {N : Int → Int} (hB : RowB K N) : i32 (hearZ N) ∧ (hearZ N < 0 → hearN N = N) := by
  have h6 := hB.2.1.2
  have hh := hF_b N 0 (N 6).toNat 0
  have hz : hF N 0 0 (N 6).toNat = heardN N 0 := rfl
  rw [hz] at hh
  unfold hearZ hearN
  generalize heardN N 0 = c at hh
  by_cases h : c < 0
  · rw [if_pos h, if_pos h]; exact ⟨by decide, fun _ => rfl⟩
  · rw [if_neg h, if_neg h]
    obtain ⟨q0, q1, q2, q3, q4, q5, q6, q7⟩ := hB.2.2.2.2.2.2 c (by omega) (by omega)
    have c1 : 0 ≤ clA N c 1 ∧ clA N c 1 ≤ 5 := q1
    have c4 : 0 ≤ clA N c 4 ∧ clA N c 4 ≤ 10000 := q4
    have lb := loss_b hB (show 0 ≤ c by omega) (by omega)
    have np := (hB.2.2.2.2.2.1 (clA N c 1) c1.1 (by omega)).2.2.2.2.1
    have : 0 ≤ hPay N c ∧ hPay N c ≤ 9720 := by
      unfold hPay
      split
      · omega
      · split <;> omega
    exact ⟨by omega, fun z => absurd z (by omega)⟩
theorem m_lay {n : Int} (hM : MS G o N L T) (hB : RowB K N) (hn : i32 n) : Tri X 7 Y_X4_lay [.ref o, .int (iI n)] 0 0 G (fun r G' => ∃ R, (isN N n → ¬ jnd N n → RouteR N n 0 R) ∧ MOut G o N L T (layZ N n R) (if 0 ≤ layZ N n R then some (layN N n R) else none) r G') := by
  obtain ⟨M, V, hR, rfl, hL, hT⟩ := hM.get
  refine Tri.of (by decide +kernel) (Nat.le_of_ble_eq_true rfl) ?_
  refine exS rfl 6 _ _ _ _ _ _ ?_
  simp (disch := omega) only [exB, Nat.reduceAdd, Nat.reduceSub, Nat.reduceMul, Nat.reduceLeDiff, Nat.reduceLT, Nat.reduceEqDiff, Nat.reduceBEq, Int.reduceAdd, Int.reduceSub, Int.reduceMul, Int.reduceNeg, Int.reduceToNat, Int.reduceLE, Int.reduceLT, Int.reduceEq, Int.reduceGE, Int.reduceGT, ↓reduceIte, reduceCtorEq, gm_pe, gm_pn, gc_put, gl_put, gs_put, cd_X4_lay, hR.f, iI_rt]
  refine gCall.of (m_copy hR) (by decide) (by first | omega | decide) (by first | omega | decide) ?_
  rintro r G1 ⟨rfl, hk1, hR1⟩
  change MR G1 o (cpM0 M) V at hR1
  have e0 : cpM0 M 0 = M 0 := cpM0_n (by decide)
  refine exS rfl 6 _ _ _ _ _ _ ?_
  simp (disch := omega) only [exB, Nat.reduceAdd, Nat.reduceSub, Nat.reduceMul, Nat.reduceLeDiff, Nat.reduceLT, Nat.reduceEqDiff, Nat.reduceBEq, Int.reduceAdd, Int.reduceSub, Int.reduceMul, Int.reduceNeg, Int.reduceToNat, Int.reduceLE, Int.reduceLT, Int.reduceEq, Int.reduceGE, Int.reduceGT, ↓reduceIte, reduceCtorEq, gm_pe, gm_pn, gc_put, gl_put, gs_put, cd_X4_lay, hR1.f, iI_rt]
  refine gCall.of (m_lays hR1 (by rw [e0]; exact hB) hn) (by decide) (by first | omega | decide) (by first | omega | decide) ?_
  rintro r G2 ⟨R, hRR, rfl, hk2, M', V', hR2, q0, hf, hv⟩
  rw [e0] at hRR q0 ⊢
  obtain ⟨zb, zn⟩ := layZ_b hB hRR
  refine exS rfl 2 _ _ _ _ _ _ ?_
  simp (disch := omega) only [exB, Nat.reduceAdd, Nat.reduceSub, Nat.reduceMul, Nat.reduceLeDiff, Nat.reduceLT, Nat.reduceEqDiff, Nat.reduceBEq, Int.reduceAdd, Int.reduceSub, Int.reduceMul, Int.reduceNeg, Int.reduceToNat, Int.reduceLE, Int.reduceLT, Int.reduceEq, Int.reduceGE, Int.reduceGT, ↓reduceIte, reduceCtorEq, gm_pe, gm_pn, gc_put, gl_put, gs_put, cd_X4_lay, hR2.f]
  refine gCall.of (act_rec hL hT zb zn hk1 hk2 hR2 q0 hf hv) (by decide) (by first | omega | decide) (by first | omega | decide) ?_
  intro r G3 h3
  obtain ⟨rfl, h4⟩ := h3
  refine exS rfl 2 _ _ _ _ _ _ ?_
  simp (disch := omega) only [exB, Nat.reduceAdd, Nat.reduceSub, Nat.reduceMul, Nat.reduceLeDiff, Nat.reduceLT, Nat.reduceEqDiff, Nat.reduceBEq, Int.reduceAdd, Int.reduceSub, Int.reduceMul, Int.reduceNeg, Int.reduceToNat, Int.reduceLE, Int.reduceLT, Int.reduceEq, Int.reduceGE, Int.reduceGT, ↓reduceIte, reduceCtorEq, gm_pe, gm_pn, gc_put, gl_put, gs_put, cd_X4_lay]
  exact ⟨R, hRR, rfl, h4⟩
theorem m_dig {n : Int} (hM : MS G o N L T) (hB : RowB K N) (hn : i32 n) : Tri X 7 Y_X4_dig [.ref o, .int (iI n)] 0 0 G (fun r G' => ∃ R, (isN N n → ¬ jnd N n → RouteR N n 1 R) ∧ MOut G o N L T (digZ N n R) (if 0 ≤ digZ N n R then some (digN N n R) else none) r G') := by
  obtain ⟨M, V, hR, rfl, hL, hT⟩ := hM.get
  refine Tri.of (by decide +kernel) (Nat.le_of_ble_eq_true rfl) ?_
  refine exS rfl 6 _ _ _ _ _ _ ?_
  simp (disch := omega) only [exB, Nat.reduceAdd, Nat.reduceSub, Nat.reduceMul, Nat.reduceLeDiff, Nat.reduceLT, Nat.reduceEqDiff, Nat.reduceBEq, Int.reduceAdd, Int.reduceSub, Int.reduceMul, Int.reduceNeg, Int.reduceToNat, Int.reduceLE, Int.reduceLT, Int.reduceEq, Int.reduceGE, Int.reduceGT, ↓reduceIte, reduceCtorEq, gm_pe, gm_pn, gc_put, gl_put, gs_put, cd_X4_dig, hR.f, iI_rt]
  refine gCall.of (m_copy hR) (by decide) (by first | omega | decide) (by first | omega | decide) ?_
  rintro r G1 ⟨rfl, hk1, hR1⟩
  change MR G1 o (cpM0 M) V at hR1
  have e0 : cpM0 M 0 = M 0 := cpM0_n (by decide)
  refine exS rfl 6 _ _ _ _ _ _ ?_
  simp (disch := omega) only [exB, Nat.reduceAdd, Nat.reduceSub, Nat.reduceMul, Nat.reduceLeDiff, Nat.reduceLT, Nat.reduceEqDiff, Nat.reduceBEq, Int.reduceAdd, Int.reduceSub, Int.reduceMul, Int.reduceNeg, Int.reduceToNat, Int.reduceLE, Int.reduceLT, Int.reduceEq, Int.reduceGE, Int.reduceGT, ↓reduceIte, reduceCtorEq, gm_pe, gm_pn, gc_put, gl_put, gs_put, cd_X4_dig, hR1.f, iI_rt]
  refine gCall.of (m_digsFor hR1 (by rw [e0]; exact hB) hn) (by decide) (by first | omega | decide) (by first | omega | decide) ?_
  rintro r G2 ⟨R, hRR, rfl, hk2, M', V', hR2, q0, hf, hv⟩
  rw [e0] at hRR q0 ⊢
  obtain ⟨zb, zn⟩ := digZ_b (n := n) (R := R) hB
  refine exS rfl 2 _ _ _ _ _ _ ?_
  simp (disch := omega) only [exB, Nat.reduceAdd, Nat.reduceSub, Nat.reduceMul, Nat.reduceLeDiff, Nat.reduceLT, Nat.reduceEqDiff, Nat.reduceBEq, Int.reduceAdd, Int.reduceSub, Int.reduceMul, Int.reduceNeg, Int.reduceToNat, Int.reduceLE, Int.reduceLT, Int.reduceEq, Int.reduceGE, Int.reduceGT, ↓reduceIte, reduceCtorEq, gm_pe, gm_pn, gc_put, gl_put, gs_put, cd_X4_dig, hR2.f]
  refine gCall.of (act_rec hL hT zb zn hk1 hk2 hR2 q0 hf hv) (by decide) (by first | omega | decide) (by first | omega | decide) ?_
  intro r G3 h3
  obtain ⟨rfl, h4⟩ := h3
  refine exS rfl 2 _ _ _ _ _ _ ?_
  simp (disch := omega) only [exB, Nat.reduceAdd, Nat.reduceSub, Nat.reduceMul, Nat.reduceLeDiff, Nat.reduceLT, Nat.reduceEqDiff, Nat.reduceBEq, Int.reduceAdd, Int.reduceSub, Int.reduceMul, Int.reduceNeg, Int.reduceToNat, Int.reduceLE, Int.reduceLT, Int.reduceEq, Int.reduceGE, Int.reduceGT, ↓reduceIte, reduceCtorEq, gm_pe, gm_pn, gc_put, gl_put, gs_put, cd_X4_dig]
  exact ⟨R, hRR, rfl, h4⟩
theorem m_rip {n : Int} (hM : MS G o N L T) (hB : RowB K N) (hn : i32 n) : Tri X 4 Y_X4_rip [.ref o, .int (iI n)] 0 0 G (MOut G o N L T (ripZ N n) (if 0 ≤ ripZ N n then some (ripN N n) else none)) := by
  obtain ⟨M, V, hR, rfl, hL, hT⟩ := hM.get
  refine Tri.of (by decide +kernel) (Nat.le_of_ble_eq_true rfl) ?_
  refine exS rfl 6 _ _ _ _ _ _ ?_
  simp (disch := omega) only [exB, Nat.reduceAdd, Nat.reduceSub, Nat.reduceMul, Nat.reduceLeDiff, Nat.reduceLT, Nat.reduceEqDiff, Nat.reduceBEq, Int.reduceAdd, Int.reduceSub, Int.reduceMul, Int.reduceNeg, Int.reduceToNat, Int.reduceLE, Int.reduceLT, Int.reduceEq, Int.reduceGE, Int.reduceGT, ↓reduceIte, reduceCtorEq, gm_pe, gm_pn, gc_put, gl_put, gs_put, cd_X4_rip, hR.f, iI_rt]
  refine gCall.of (m_copy hR) (by decide) (by first | omega | decide) (by first | omega | decide) ?_
  rintro r G1 ⟨rfl, hk1, hR1⟩
  change MR G1 o (cpM0 M) V at hR1
  have e0 : cpM0 M 0 = M 0 := cpM0_n (by decide)
  refine exS rfl 6 _ _ _ _ _ _ ?_
  simp (disch := omega) only [exB, Nat.reduceAdd, Nat.reduceSub, Nat.reduceMul, Nat.reduceLeDiff, Nat.reduceLT, Nat.reduceEqDiff, Nat.reduceBEq, Int.reduceAdd, Int.reduceSub, Int.reduceMul, Int.reduceNeg, Int.reduceToNat, Int.reduceLE, Int.reduceLT, Int.reduceEq, Int.reduceGE, Int.reduceGT, ↓reduceIte, reduceCtorEq, gm_pe, gm_pn, gc_put, gl_put, gs_put, cd_X4_rip, hR1.f, iI_rt]
  refine gCall.of (m_rips hR1 (by rw [e0]; exact hB) hn) (by decide) (by first | omega | decide) (by first | omega | decide) ?_
  rintro r G2 ⟨rfl, hk2, M', V', hR2, q0, hf, hv⟩
  rw [e0] at q0 ⊢
  obtain ⟨zb, zn⟩ := ripZ_b (N := M 0) (n := n)
  refine exS rfl 2 _ _ _ _ _ _ ?_
  simp (disch := omega) only [exB, Nat.reduceAdd, Nat.reduceSub, Nat.reduceMul, Nat.reduceLeDiff, Nat.reduceLT, Nat.reduceEqDiff, Nat.reduceBEq, Int.reduceAdd, Int.reduceSub, Int.reduceMul, Int.reduceNeg, Int.reduceToNat, Int.reduceLE, Int.reduceLT, Int.reduceEq, Int.reduceGE, Int.reduceGT, ↓reduceIte, reduceCtorEq, gm_pe, gm_pn, gc_put, gl_put, gs_put, cd_X4_rip, hR2.f]
  refine gCall.of (act_rec hL hT zb zn hk1 hk2 hR2 q0 hf hv) (by decide) (by first | omega | decide) (by first | omega | decide) ?_
  intro r G3 h3
  obtain ⟨rfl, h4⟩ := h3
  refine exS rfl 2 _ _ _ _ _ _ ?_
  simp (disch := omega) only [exB, Nat.reduceAdd, Nat.reduceSub, Nat.reduceMul, Nat.reduceLeDiff, Nat.reduceLT, Nat.reduceEqDiff, Nat.reduceBEq, Int.reduceAdd, Int.reduceSub, Int.reduceMul, Int.reduceNeg, Int.reduceToNat, Int.reduceLE, Int.reduceLT, Int.reduceEq, Int.reduceGE, Int.reduceGT, ↓reduceIte, reduceCtorEq, gm_pe, gm_pn, gc_put, gl_put, gs_put, cd_X4_rip]
  exact ⟨rfl, h4⟩
theorem m_appeal {c : Int} (hM : MS G o N L T) (hB : RowB K N) (hn : i32 c) : Tri X 4 Y_X4_appeal [.ref o, .int (iI c)] 0 0 G (MOut G o N L T (appZ N c) (if 0 ≤ appZ N c then some (appN N c) else none)) := by
  obtain ⟨M, V, hR, rfl, hL, hT⟩ := hM.get
  refine Tri.of (by decide +kernel) (Nat.le_of_ble_eq_true rfl) ?_
  refine exS rfl 6 _ _ _ _ _ _ ?_
  simp (disch := omega) only [exB, Nat.reduceAdd, Nat.reduceSub, Nat.reduceMul, Nat.reduceLeDiff, Nat.reduceLT, Nat.reduceEqDiff, Nat.reduceBEq, Int.reduceAdd, Int.reduceSub, Int.reduceMul, Int.reduceNeg, Int.reduceToNat, Int.reduceLE, Int.reduceLT, Int.reduceEq, Int.reduceGE, Int.reduceGT, ↓reduceIte, reduceCtorEq, gm_pe, gm_pn, gc_put, gl_put, gs_put, cd_X4_appeal, hR.f, iI_rt]
  refine gCall.of (m_copy hR) (by decide) (by first | omega | decide) (by first | omega | decide) ?_
  rintro r G1 ⟨rfl, hk1, hR1⟩
  change MR G1 o (cpM0 M) V at hR1
  have e0 : cpM0 M 0 = M 0 := cpM0_n (by decide)
  refine exS rfl 6 _ _ _ _ _ _ ?_
  simp (disch := omega) only [exB, Nat.reduceAdd, Nat.reduceSub, Nat.reduceMul, Nat.reduceLeDiff, Nat.reduceLT, Nat.reduceEqDiff, Nat.reduceBEq, Int.reduceAdd, Int.reduceSub, Int.reduceMul, Int.reduceNeg, Int.reduceToNat, Int.reduceLE, Int.reduceLT, Int.reduceEq, Int.reduceGE, Int.reduceGT, ↓reduceIte, reduceCtorEq, gm_pe, gm_pn, gc_put, gl_put, gs_put, cd_X4_appeal, hR1.f, iI_rt]
  refine gCall.of (m_appeals hR1 (by rw [e0]; exact hB) hn) (by decide) (by first | omega | decide) (by first | omega | decide) ?_
  rintro r G2 ⟨rfl, hk2, M', V', hR2, q0, hf, hv⟩
  rw [e0] at q0 ⊢
  obtain ⟨zb, zn⟩ := appZ_b (c := c) hB
  refine exS rfl 2 _ _ _ _ _ _ ?_
  simp (disch := omega) only [exB, Nat.reduceAdd, Nat.reduceSub, Nat.reduceMul, Nat.reduceLeDiff, Nat.reduceLT, Nat.reduceEqDiff, Nat.reduceBEq, Int.reduceAdd, Int.reduceSub, Int.reduceMul, Int.reduceNeg, Int.reduceToNat, Int.reduceLE, Int.reduceLT, Int.reduceEq, Int.reduceGE, Int.reduceGT, ↓reduceIte, reduceCtorEq, gm_pe, gm_pn, gc_put, gl_put, gs_put, cd_X4_appeal, hR2.f]
  refine gCall.of (act_rec hL hT zb zn hk1 hk2 hR2 q0 hf hv) (by decide) (by first | omega | decide) (by first | omega | decide) ?_
  intro r G3 h3
  obtain ⟨rfl, h4⟩ := h3
  refine exS rfl 2 _ _ _ _ _ _ ?_
  simp (disch := omega) only [exB, Nat.reduceAdd, Nat.reduceSub, Nat.reduceMul, Nat.reduceLeDiff, Nat.reduceLT, Nat.reduceEqDiff, Nat.reduceBEq, Int.reduceAdd, Int.reduceSub, Int.reduceMul, Int.reduceNeg, Int.reduceToNat, Int.reduceLE, Int.reduceLT, Int.reduceEq, Int.reduceGE, Int.reduceGT, ↓reduceIte, reduceCtorEq, gm_pe, gm_pn, gc_put, gl_put, gs_put, cd_X4_appeal]
  exact ⟨rfl, h4⟩
theorem m_hear {dummy : Int} (hM : MS G o N L T) (hB : RowB K N) : Tri X 5 Y_X4_hear [.ref o] 0 0 G (MOut G o N L T (hearZ N) (if 0 ≤ hearZ N then some (hearN N) else none)) := by
  obtain ⟨M, V, hR, rfl, hL, hT⟩ := hM.get
  refine Tri.of (by decide +kernel) (Nat.le_of_ble_eq_true rfl) ?_
  refine exS rfl 6 _ _ _ _ _ _ ?_
  simp (disch := omega) only [exB, Nat.reduceAdd, Nat.reduceSub, Nat.reduceMul, Nat.reduceLeDiff, Nat.reduceLT, Nat.reduceEqDiff, Nat.reduceBEq, Int.reduceAdd, Int.reduceSub, Int.reduceMul, Int.reduceNeg, Int.reduceToNat, Int.reduceLE, Int.reduceLT, Int.reduceEq, Int.reduceGE, Int.reduceGT, ↓reduceIte, reduceCtorEq, gm_pe, gm_pn, gc_put, gl_put, gs_put, cd_X4_hear, hR.f, iI_rt]
  refine gCall.of (m_copy hR) (by decide) (by first | omega | decide) (by first | omega | decide) ?_
  rintro r G1 ⟨rfl, hk1, hR1⟩
  change MR G1 o (cpM0 M) V at hR1
  have e0 : cpM0 M 0 = M 0 := cpM0_n (by decide)
  refine exS rfl 6 _ _ _ _ _ _ ?_
  simp (disch := omega) only [exB, Nat.reduceAdd, Nat.reduceSub, Nat.reduceMul, Nat.reduceLeDiff, Nat.reduceLT, Nat.reduceEqDiff, Nat.reduceBEq, Int.reduceAdd, Int.reduceSub, Int.reduceMul, Int.reduceNeg, Int.reduceToNat, Int.reduceLE, Int.reduceLT, Int.reduceEq, Int.reduceGE, Int.reduceGT, ↓reduceIte, reduceCtorEq, gm_pe, gm_pn, gc_put, gl_put, gs_put, cd_X4_hear, hR1.f, iI_rt]
  refine gCall.of (m_hears hR1 (by rw [e0]; exact hB)) (by decide) (by first | omega | decide) (by first | omega | decide) ?_
  rintro r G2 ⟨rfl, hk2, M', V', hR2, q0, hf, hv⟩
  rw [e0] at q0 ⊢
  obtain ⟨zb, zn⟩ := hearZ_b hB
  refine exS rfl 2 _ _ _ _ _ _ ?_
  simp (disch := omega) only [exB, Nat.reduceAdd, Nat.reduceSub, Nat.reduceMul, Nat.reduceLeDiff, Nat.reduceLT, Nat.reduceEqDiff, Nat.reduceBEq, Int.reduceAdd, Int.reduceSub, Int.reduceMul, Int.reduceNeg, Int.reduceToNat, Int.reduceLE, Int.reduceLT, Int.reduceEq, Int.reduceGE, Int.reduceGT, ↓reduceIte, reduceCtorEq, gm_pe, gm_pn, gc_put, gl_put, gs_put, cd_X4_hear, hR2.f]
  refine gCall.of (act_rec hL hT zb zn hk1 hk2 hR2 q0 hf hv) (by decide) (by first | omega | decide) (by first | omega | decide) ?_
  intro r G3 h3
  obtain ⟨rfl, h4⟩ := h3
  refine exS rfl 2 _ _ _ _ _ _ ?_
  simp (disch := omega) only [exB, Nat.reduceAdd, Nat.reduceSub, Nat.reduceMul, Nat.reduceLeDiff, Nat.reduceLT, Nat.reduceEqDiff, Nat.reduceBEq, Int.reduceAdd, Int.reduceSub, Int.reduceMul, Int.reduceNeg, Int.reduceToNat, Int.reduceLE, Int.reduceLT, Int.reduceEq, Int.reduceGE, Int.reduceGT, ↓reduceIte, reduceCtorEq, gm_pe, gm_pn, gc_put, gl_put, gs_put, cd_X4_hear]
  exact ⟨rfl, h4⟩
theorem m_pass {a : Int} (hM : MS G o N L T) (hB : RowB K N) (hn : i32 a) : Tri X 3 Y_X4_pass [.ref o, .int (iI a)] 0 0 G (MOut G o N L T (passZ N a) (if 0 ≤ passZ N a then some (passN N a) else none)) := by
  obtain ⟨M, V, hR, rfl, hL, hT⟩ := hM.get
  refine Tri.of (by decide +kernel) (Nat.le_of_ble_eq_true rfl) ?_
  refine exS rfl 6 _ _ _ _ _ _ ?_
  simp (disch := omega) only [exB, Nat.reduceAdd, Nat.reduceSub, Nat.reduceMul, Nat.reduceLeDiff, Nat.reduceLT, Nat.reduceEqDiff, Nat.reduceBEq, Int.reduceAdd, Int.reduceSub, Int.reduceMul, Int.reduceNeg, Int.reduceToNat, Int.reduceLE, Int.reduceLT, Int.reduceEq, Int.reduceGE, Int.reduceGT, ↓reduceIte, reduceCtorEq, gm_pe, gm_pn, gc_put, gl_put, gs_put, cd_X4_pass, hR.f, iI_rt]
  refine gCall.of (m_copy hR) (by decide) (by first | omega | decide) (by first | omega | decide) ?_
  rintro r G1 ⟨rfl, hk1, hR1⟩
  change MR G1 o (cpM0 M) V at hR1
  have e0 : cpM0 M 0 = M 0 := cpM0_n (by decide)
  refine exS rfl 6 _ _ _ _ _ _ ?_
  simp (disch := omega) only [exB, Nat.reduceAdd, Nat.reduceSub, Nat.reduceMul, Nat.reduceLeDiff, Nat.reduceLT, Nat.reduceEqDiff, Nat.reduceBEq, Int.reduceAdd, Int.reduceSub, Int.reduceMul, Int.reduceNeg, Int.reduceToNat, Int.reduceLE, Int.reduceLT, Int.reduceEq, Int.reduceGE, Int.reduceGT, ↓reduceIte, reduceCtorEq, gm_pe, gm_pn, gc_put, gl_put, gs_put, cd_X4_pass, hR1.f, iI_rt]
  refine gCall.of (m_passes hR1 (by rw [e0]; exact hB) hn) (by decide) (by first | omega | decide) (by first | omega | decide) ?_
  rintro r G2 ⟨rfl, hk2, M', V', hR2, q0, hf, hv⟩
  rw [e0] at q0 ⊢
  obtain ⟨zb, zn⟩ := passZ_b (a := a) hB
  refine exS rfl 2 _ _ _ _ _ _ ?_
  simp (disch := omega) only [exB, Nat.reduceAdd, Nat.reduceSub, Nat.reduceMul, Nat.reduceLeDiff, Nat.reduceLT, Nat.reduceEqDiff, Nat.reduceBEq, Int.reduceAdd, Int.reduceSub, Int.reduceMul, Int.reduceNeg, Int.reduceToNat, Int.reduceLE, Int.reduceLT, Int.reduceEq, Int.reduceGE, Int.reduceGT, ↓reduceIte, reduceCtorEq, gm_pe, gm_pn, gc_put, gl_put, gs_put, cd_X4_pass, hR2.f]
  refine gCall.of (act_rec hL hT zb zn hk1 hk2 hR2 q0 hf hv) (by decide) (by first | omega | decide) (by first | omega | decide) ?_
  intro r G3 h3
  obtain ⟨rfl, h4⟩ := h3
  refine exS rfl 2 _ _ _ _ _ _ ?_
  simp (disch := omega) only [exB, Nat.reduceAdd, Nat.reduceSub, Nat.reduceMul, Nat.reduceLeDiff, Nat.reduceLT, Nat.reduceEqDiff, Nat.reduceBEq, Int.reduceAdd, Int.reduceSub, Int.reduceMul, Int.reduceNeg, Int.reduceToNat, Int.reduceLE, Int.reduceLT, Int.reduceEq, Int.reduceGE, Int.reduceGT, ↓reduceIte, reduceCtorEq, gm_pe, gm_pn, gc_put, gl_put, gs_put, cd_X4_pass]
  exact ⟨rfl, h4⟩
end
