/-! THE MODEL 18: what is told of routes -/
set_option maxRecDepth 100000
set_option maxHeartbeats 4000000
abbrev okAsk (N : Int → Int) (n h : Int) : Prop := isN N n ∧ 0 ≤ h ∧ h ≤ 1
def refZ (N : Int → Int) (n h : Int) (R : Option (List Int × Int)) : Int := if okAsk N n h then (if jnd N n then -1000002 else match R with
  | none => -1000004
  | some _ => 0) else -1000001
/-- what is told of a route: why there is none; else by the route -/
def askZ (N : Int → Int) (n h : Int) (R : Option (List Int × Int)) (f : List Int → Int → Int) : Int := if okAsk N n h then (if jnd N n then -1000002 else match R with
  | none => -1000004
  | some (l, c) => f l c) else -1000001
abbrev RtA (N : Int → Int) (n h : Int) (R : Option (List Int × Int)) : Prop := okAsk N n h → ¬ jnd N n → RouteR N n h R
section
variable {X : gX} {G : gH} {o : Nat} {N : Int → Int} {L : List (Int → Int)} {T : List Int} {M : Nat → Int → Int} {V : Nat → Int} {l : List Int} {K : Int}
theorem m_refused {n h : Int} (hM : MR G o M V) (hB : RowB K (M 0)) (hn : i32 n) (hh : i32 h) : Tri X 6 Y_X4_refused [.ref o, .int (iI n), .int (iI h)] 0 0 G (fun r G' => ∃ R, RtA (M 0) n h R ∧ r = some (.int (iI (refZ (M 0) n h R))) ∧ MK G G' o ∧ ∃ M' V', MR G' o M' V' ∧ (∀ f, f ≠ 8 → f ≠ 9 → f ≠ 10 → M' f = M f) ∧ (∀ f, f ≠ 11 → f ≠ 12 → f ≠ 13 → V' f = V f) ∧ (refZ (M 0) n h R = 0 → ∃ l c, R = some (l, c) ∧ okAsk (M 0) n h ∧ ¬ jnd (M 0) n ∧ RtOK M' V' l ∧ V' 12 = c ∧ 0 ≤ c ∧ c ≤ 25596)) := by
  have h5 := hB.2.1.1
  refine Tri.of (by decide +kernel) (Nat.le_of_ble_eq_true rfl) ?_
  generalize hQ : (fun (r : Option Value) G' => ∃ R, RtA (M 0) n h R ∧ r = some (.int (iI (refZ (M 0) n h R))) ∧ MK G G' o ∧ ∃ M' V', MR G' o M' V' ∧ (∀ f, f ≠ 8 → f ≠ 9 → f ≠ 10 → M' f = M f) ∧ (∀ f, f ≠ 11 → f ≠ 12 → f ≠ 13 → V' f = V f) ∧ (refZ (M 0) n h R = 0 → ∃ l c, R = some (l, c) ∧ okAsk (M 0) n h ∧ ¬ jnd (M 0) n ∧ RtOK M' V' l ∧ V' 12 = c ∧ 0 ≤ c ∧ c ≤ 25596)) = Q
  have same : ∀ z, (∃ R, RtA (M 0) n h R ∧ refZ (M 0) n h R = z) → z ≠ 0 → Q (some (.int (iI z))) G := by
    rintro z ⟨R, hR, hz⟩ h0
    subst hQ
    refine ⟨R, hR, by rw [hz], MK.refl, M, V, hM, fun _ _ _ _ => rfl, fun _ _ _ _ => rfl, fun q => absurd (hz.symm.trans q) h0⟩
  refine exS rfl 6 _ _ _ _ _ _ ?_
  simp (disch := omega) only [exB, Nat.reduceAdd, Nat.reduceSub, Nat.reduceMul, Nat.reduceLeDiff, Nat.reduceLT, Nat.reduceEqDiff, Nat.reduceBEq, Int.reduceAdd, Int.reduceSub, Int.reduceMul, Int.reduceNeg, Int.reduceToNat, Int.reduceLE, Int.reduceLT, Int.reduceEq, Int.reduceGE, Int.reduceGT, ↓reduceIte, reduceCtorEq, gm_pe, gm_pn, gc_put, gl_put, gs_put, cd_X4_refused, hM.f]
  refine gCall.of (m_isNet hM hn (by omega)) (by decide) (by first | omega | decide) (by first | omega | decide) ?_
  rintro r G' ⟨rfl, rfl⟩
  by_cases hN : isN (M 0) n
  case neg =>
    rw [if_neg hN]
    refine exS rfl 6 _ _ _ _ _ _ ?_
    simp (disch := omega) only [exB, Nat.reduceAdd, Nat.reduceSub, Nat.reduceMul, Nat.reduceLeDiff, Nat.reduceLT, Nat.reduceEqDiff, Nat.reduceBEq, Int.reduceAdd, Int.reduceSub, Int.reduceMul, Int.reduceNeg, Int.reduceToNat, Int.reduceLE, Int.reduceLT, Int.reduceEq, Int.reduceGE, Int.reduceGT, ↓reduceIte, reduceCtorEq, gm_pe, gm_pn, gc_put, gl_put, gs_put, cd_X4_refused, hM.f, iI_rt]
    exact same _ ⟨none, fun q => absurd q.1 hN, by unfold refZ; rw [if_neg (fun q => hN q.1)]⟩ (by decide)
  rw [if_pos hN]
  have hn6 : 0 ≤ n ∧ n < 6 := by omega
  refine exS rfl 6 _ _ _ _ _ _ ?_
  simp (disch := omega) only [exB, Nat.reduceAdd, Nat.reduceSub, Nat.reduceMul, Nat.reduceLeDiff, Nat.reduceLT, Nat.reduceEqDiff, Nat.reduceBEq, Int.reduceAdd, Int.reduceSub, Int.reduceMul, Int.reduceNeg, Int.reduceToNat, Int.reduceLE, Int.reduceLT, Int.reduceEq, Int.reduceGE, Int.reduceGT, ↓reduceIte, reduceCtorEq, gm_pe, gm_pn, gc_put, gl_put, gs_put, cd_X4_refused, hM.f, iI_rt]
  refine gCall.of (m_in hh (by decide) (by decide)) (by decide) (by first | omega | decide) (by first | omega | decide) ?_
  rintro r G' ⟨rfl, rfl⟩
  by_cases hH : 0 ≤ h ∧ h ≤ 1
  case neg =>
    rw [if_neg hH]
    refine exS rfl 6 _ _ _ _ _ _ ?_
    simp (disch := omega) only [exB, Nat.reduceAdd, Nat.reduceSub, Nat.reduceMul, Nat.reduceLeDiff, Nat.reduceLT, Nat.reduceEqDiff, Nat.reduceBEq, Int.reduceAdd, Int.reduceSub, Int.reduceMul, Int.reduceNeg, Int.reduceToNat, Int.reduceLE, Int.reduceLT, Int.reduceEq, Int.reduceGE, Int.reduceGT, ↓reduceIte, reduceCtorEq, gm_pe, gm_pn, gc_put, gl_put, gs_put, cd_X4_refused, hM.f, iI_rt]
    exact same _ ⟨none, fun q => absurd q.2 hH, by unfold refZ; rw [if_neg (fun q => hH q.2)]⟩ (by decide)
  rw [if_pos hH]
  have hok : okAsk (M 0) n h := ⟨hN, hH⟩
  refine exS rfl 6 _ _ _ _ _ _ ?_
  simp (disch := omega) only [exB, Nat.reduceAdd, Nat.reduceSub, Nat.reduceMul, Nat.reduceLeDiff, Nat.reduceLT, Nat.reduceEqDiff, Nat.reduceBEq, Int.reduceAdd, Int.reduceSub, Int.reduceMul, Int.reduceNeg, Int.reduceToNat, Int.reduceLE, Int.reduceLT, Int.reduceEq, Int.reduceGE, Int.reduceGT, ↓reduceIte, reduceCtorEq, gm_pe, gm_pn, gc_put, gl_put, gs_put, cd_X4_refused, hM.f, iI_rt]
  refine gCall.of (m_isJoined hM hn6) (by decide) (by first | omega | decide) (by first | omega | decide) ?_
  rintro r G' ⟨rfl, rfl⟩
  by_cases hj : jnd (M 0) n
  · rw [if_pos hj]
    refine exS rfl 6 _ _ _ _ _ _ ?_
    simp (disch := omega) only [exB, Nat.reduceAdd, Nat.reduceSub, Nat.reduceMul, Nat.reduceLeDiff, Nat.reduceLT, Nat.reduceEqDiff, Nat.reduceBEq, Int.reduceAdd, Int.reduceSub, Int.reduceMul, Int.reduceNeg, Int.reduceToNat, Int.reduceLE, Int.reduceLT, Int.reduceEq, Int.reduceGE, Int.reduceGT, ↓reduceIte, reduceCtorEq, gm_pe, gm_pn, gc_put, gl_put, gs_put, cd_X4_refused, hM.f, iI_rt]
    exact same _ ⟨none, fun _ q => absurd hj q, by unfold refZ; rw [if_pos hok, if_pos hj]⟩ (by decide)
  rw [if_neg hj]
  have nb := hB.2.2.2.2.2.1 n hn6.1 hn6.2
  have hb01 : bit h := by omega
  have go : gCall X 6 Y_X4_routes [.ref o, .int (iI n), .int (iI h)] 0 0 G' (fun k n' r G => Wp X Y_X4_refused 6 Q k n' G 48 [some (.ref o), some (.int (iI n)), some (.int (iI h))] (r.toList ++ [])) := by
    refine gCall.of (m_routes hM hB.rc hn6 (dg := h) hb01 (hB.pins hn6.1 hn6.2) nb.1.1 nb.2.1.1) (by decide) (by first | omega | decide) (by first | omega | decide) ?_
    rintro r G1 ⟨hk1, R, M1, V1, hRR, hR1, hf1, hv1, hm⟩
    match R, hRR, hm with
    | none, hRR, hr0 =>
      subst hr0
      refine exS rfl 6 _ _ _ _ _ _ ?_
      simp (disch := omega) only [exB, Nat.reduceAdd, Nat.reduceSub, Nat.reduceMul, Nat.reduceLeDiff, Nat.reduceLT, Nat.reduceEqDiff, Nat.reduceBEq, Int.reduceAdd, Int.reduceSub, Int.reduceMul, Int.reduceNeg, Int.reduceToNat, Int.reduceLE, Int.reduceLT, Int.reduceEq, Int.reduceGE, Int.reduceGT, ↓reduceIte, reduceCtorEq, gm_pe, gm_pn, gc_put, gl_put, gs_put, cd_X4_refused, hR1.f, iI_rt]
      subst hQ
      have ez : refZ (M 0) n h none = -1000004 := by unfold refZ; rw [if_pos hok, if_neg hj]
      exact ⟨none, fun _ _ => hRR, by rw [ez], hk1, M1, V1, hR1, hf1, hv1, fun q => absurd (ez.symm.trans q) (by decide)⟩
    | some (l, c), hRR, ⟨hr0, hl, hc, hg⟩ =>
      subst hr0
      have hb := hRR.b nb.2.1 nb.2.2.1.2
      refine exS rfl 6 _ _ _ _ _ _ ?_
      simp (disch := omega) only [exB, Nat.reduceAdd, Nat.reduceSub, Nat.reduceMul, Nat.reduceLeDiff, Nat.reduceLT, Nat.reduceEqDiff, Nat.reduceBEq, Int.reduceAdd, Int.reduceSub, Int.reduceMul, Int.reduceNeg, Int.reduceToNat, Int.reduceLE, Int.reduceLT, Int.reduceEq, Int.reduceGE, Int.reduceGT, ↓reduceIte, reduceCtorEq, gm_pe, gm_pn, gc_put, gl_put, gs_put, cd_X4_refused, hR1.f, iI_rt]
      subst hQ
      have ez : refZ (M 0) n h (some (l, c)) = 0 := by unfold refZ; rw [if_pos hok, if_neg hj]
      exact ⟨some (l, c), fun _ _ => hRR, by rw [ez], hk1, M1, V1, hR1, hf1, hv1, fun _ => ⟨l, c, rfl, hok, hj, ⟨hl, hb.1, hb.2.2, hg⟩, hc, hb.2.1.1, hb.2.1.2⟩⟩
  by_cases h1 : h = 1
  · subst h1
    refine exS rfl 20 _ _ _ _ _ _ ?_
    simp (disch := omega) only [exB, Nat.reduceAdd, Nat.reduceSub, Nat.reduceMul, Nat.reduceLeDiff, Nat.reduceLT, Nat.reduceEqDiff, Nat.reduceBEq, Int.reduceAdd, Int.reduceSub, Int.reduceMul, Int.reduceNeg, Int.reduceToNat, Int.reduceLE, Int.reduceLT, Int.reduceEq, Int.reduceGE, Int.reduceGT, ↓reduceIte, reduceCtorEq, gm_pe, gm_pn, gc_put, gl_put, gs_put, cd_X4_refused, hM.f, iI_rt]
    exact go
  · have h0 : h = 0 := by omega
    subst h0
    refine exS rfl 20 _ _ _ _ _ _ ?_
    simp (disch := omega) only [exB, Nat.reduceAdd, Nat.reduceSub, Nat.reduceMul, Nat.reduceLeDiff, Nat.reduceLT, Nat.reduceEqDiff, Nat.reduceBEq, Int.reduceAdd, Int.reduceSub, Int.reduceMul, Int.reduceNeg, Int.reduceToNat, Int.reduceLE, Int.reduceLT, Int.reduceEq, Int.reduceGE, Int.reduceGT, ↓reduceIte, reduceCtorEq, gm_pe, gm_pn, gc_put, gl_put, gs_put, cd_X4_refused, hM.f, iI_rt]
    exact go
theorem refZ_b {N : Int → Int} {n h : Int} {R : Option (List Int × Int)} : i32 (refZ N n h R) ∧ (refZ N n h R = 0 ∨ refZ N n h R < 0) ∧ ∀ f, refZ N n h R ≠ 0 → askZ N n h R f = refZ N n h R := by
  unfold refZ askZ
  by_cases h1 : okAsk N n h
  · rw [if_pos h1]
    by_cases h2 : jnd N n
    · rw [if_pos h2]; exact ⟨by decide, Or.inr (by decide), fun f _ => by rw [if_pos h1, if_pos h2]⟩
    · rw [if_neg h2]
      match R with
      | none => exact ⟨by dsimp only; decide, Or.inr (by dsimp only; decide), fun f _ => by rw [if_pos h1, if_neg h2]⟩
      | some (l, c) => exact ⟨by dsimp only; decide, Or.inl rfl, fun f q => absurd rfl q⟩
  · rw [if_neg h1]; exact ⟨by decide, Or.inr (by decide), fun f _ => by rw [if_neg h1]⟩
theorem askZ_s {N : Int → Int} {n h : Int} {l : List Int} {c : Int} {f : List Int → Int → Int} (h1 : okAsk N n h) (h2 : ¬ jnd N n) : askZ N n h (some (l, c)) f = f l c := by unfold askZ; rw [if_pos h1, if_neg h2]
theorem ask_same {G' : gH} {M' : Nat → Int → Int} {V' : Nat → Int} (hL : HistOK M V L) (hT : TextOK M V T) (hR : MR G' o M' V') (hf : ∀ f, f ≠ 8 → f ≠ 9 → f ≠ 10 → M' f = M f) (hv : ∀ f, f ≠ 11 → f ≠ 12 → f ≠ 13 → V' f = V f) : MS G' o (M 0) L T :=
  MS.same hR (fun j j0 j1 => by rw [hf 0 (by decide) (by decide) (by decide)]) hL hT (hf 3 (by decide) (by decide) (by decide)) (hf 4 (by decide) (by decide) (by decide)) (hv 5 (by decide) (by decide) (by decide)) (hv 6 (by decide) (by decide) (by decide)) (hv 7 (by decide) (by decide) (by decide))
theorem m_cost {n h : Int} (hM : MS G o N L T) (hB : RowB K N) (hn : i32 n) (hh : i32 h) : Tri X 7 Y_X4_cost [.ref o, .int (iI n), .int (iI h)] 0 0 G (fun r G' => ∃ R, RtA N n h R ∧ MOut G o N L T (askZ N n h R (fun _ c => c)) none r G') := by
  obtain ⟨M, V, hR, rfl, hL, hT⟩ := hM.get
  refine Tri.of (by decide +kernel) (Nat.le_of_ble_eq_true rfl) ?_
  refine exS rfl 6 _ _ _ _ _ _ ?_
  simp (disch := omega) only [exB, Nat.reduceAdd, Nat.reduceSub, Nat.reduceMul, Nat.reduceLeDiff, Nat.reduceLT, Nat.reduceEqDiff, Nat.reduceBEq, Int.reduceAdd, Int.reduceSub, Int.reduceMul, Int.reduceNeg, Int.reduceToNat, Int.reduceLE, Int.reduceLT, Int.reduceEq, Int.reduceGE, Int.reduceGT, ↓reduceIte, reduceCtorEq, gm_pe, gm_pn, gc_put, gl_put, gs_put, cd_X4_cost, hR.f]
  refine gCall.of (m_refused hR hB hn hh) (by decide) (by first | omega | decide) (by first | omega | decide) ?_
  rintro r G1 ⟨R, hRR, rfl, hk1, M', V', hR1, hf, hv, hz⟩
  obtain ⟨z1, z2, z3⟩ := refZ_b (N := M 0) (n := n) (h := h) (R := R)
  have hS := ask_same hL hT hR1 hf hv
  rcases z2 with z2 | z2
  · obtain ⟨l, c, rfl, a1, a2, a3, a4, a5, a6⟩ := hz z2
    rw [z2]
    refine exS rfl 12 _ _ _ _ _ _ ?_
    simp (disch := omega) only [exB, Nat.reduceAdd, Nat.reduceSub, Nat.reduceMul, Nat.reduceLeDiff, Nat.reduceLT, Nat.reduceEqDiff, Nat.reduceBEq, Int.reduceAdd, Int.reduceSub, Int.reduceMul, Int.reduceNeg, Int.reduceToNat, Int.reduceLE, Int.reduceLT, Int.reduceEq, Int.reduceGE, Int.reduceGT, ↓reduceIte, reduceCtorEq, gm_pe, gm_pn, gc_put, gl_put, gs_put, cd_X4_cost, hR1.f, iI_rt]
    exact ⟨_, hRR, by rw [a4, askZ_s a1 a2], hk1, hS⟩
  · refine exS rfl 12 _ _ _ _ _ _ ?_
    simp (disch := omega) only [exB, Nat.reduceAdd, Nat.reduceSub, Nat.reduceMul, Nat.reduceLeDiff, Nat.reduceLT, Nat.reduceEqDiff, Nat.reduceBEq, Int.reduceAdd, Int.reduceSub, Int.reduceMul, Int.reduceNeg, Int.reduceToNat, Int.reduceLE, Int.reduceLT, Int.reduceEq, Int.reduceGE, Int.reduceGT, ↓reduceIte, reduceCtorEq, gm_pe, gm_pn, gc_put, gl_put, gs_put, cd_X4_cost, hR1.f, iI_rt]
    refine ⟨fun q => absurd q (by omega), fun _ => ⟨R, hRR, by rw [z3 _ (by omega)], hk1, hS⟩⟩
theorem m_price {n : Int} (hM : MS G o N L T) (hB : RowB K N) (hn : i32 n) : Tri X 7 Y_X4_price [.ref o, .int (iI n)] 0 0 G (fun r G' => ∃ R, RtA N n 1 R ∧ MOut G o N L T (askZ N n 1 R (fun l _ => duesN N l)) none r G') := by
  obtain ⟨M, V, hR, rfl, hL, hT⟩ := hM.get
  refine Tri.of (by decide +kernel) (Nat.le_of_ble_eq_true rfl) ?_
  refine exS rfl 6 _ _ _ _ _ _ ?_
  simp (disch := omega) only [exB, Nat.reduceAdd, Nat.reduceSub, Nat.reduceMul, Nat.reduceLeDiff, Nat.reduceLT, Nat.reduceEqDiff, Nat.reduceBEq, Int.reduceAdd, Int.reduceSub, Int.reduceMul, Int.reduceNeg, Int.reduceToNat, Int.reduceLE, Int.reduceLT, Int.reduceEq, Int.reduceGE, Int.reduceGT, ↓reduceIte, reduceCtorEq, gm_pe, gm_pn, gc_put, gl_put, gs_put, cd_X4_price, hR.f]
  refine gCall.of (m_refused hR hB hn (h := 1) (by decide)) (by decide) (by first | omega | decide) (by first | omega | decide) ?_
  rintro r G1 ⟨R, hRR, rfl, hk1, M', V', hR1, hf, hv, hz⟩
  obtain ⟨z1, z2, z3⟩ := refZ_b (N := M 0) (n := n) (h := 1) (R := R)
  have hS := ask_same hL hT hR1 hf hv
  have e0 : M' 0 = M 0 := hf 0 (by decide) (by decide) (by decide)
  rcases z2 with z2 | z2
  · obtain ⟨l, c, rfl, a1, a2, a3, a4, a5, a6⟩ := hz z2
    rw [z2]
    refine exS rfl 12 _ _ _ _ _ _ ?_
    simp (disch := omega) only [exB, Nat.reduceAdd, Nat.reduceSub, Nat.reduceMul, Nat.reduceLeDiff, Nat.reduceLT, Nat.reduceEqDiff, Nat.reduceBEq, Int.reduceAdd, Int.reduceSub, Int.reduceMul, Int.reduceNeg, Int.reduceToNat, Int.reduceLE, Int.reduceLT, Int.reduceEq, Int.reduceGE, Int.reduceGT, ↓reduceIte, reduceCtorEq, gm_pe, gm_pn, gc_put, gl_put, gs_put, cd_X4_price, hR1.f, iI_rt]
    refine gCall.of (m_duesOf hR1 a3 (by rw [e0]; exact hB.2.2.1.2.1) (by rw [e0]; exact hB.2.1.1) (by rw [e0]; exact fun m m0 m1 => (hB.2.2.2.2.2.1 m m0 m1).2.2.2.1)) (by decide) (by first | omega | decide) (by first | omega | decide) ?_
    rintro r G' ⟨rfl, rfl⟩
    refine exS rfl 2 _ _ _ _ _ _ ?_
    simp (disch := omega) only [exB, Nat.reduceAdd, Nat.reduceSub, Nat.reduceMul, Nat.reduceLeDiff, Nat.reduceLT, Nat.reduceEqDiff, Nat.reduceBEq, Int.reduceAdd, Int.reduceSub, Int.reduceMul, Int.reduceNeg, Int.reduceToNat, Int.reduceLE, Int.reduceLT, Int.reduceEq, Int.reduceGE, Int.reduceGT, ↓reduceIte, reduceCtorEq, gm_pe, gm_pn, gc_put, gl_put, gs_put, cd_X4_price]
    exact ⟨_, hRR, by rw [e0, askZ_s a1 a2], hk1, hS⟩
  · refine exS rfl 12 _ _ _ _ _ _ ?_
    simp (disch := omega) only [exB, Nat.reduceAdd, Nat.reduceSub, Nat.reduceMul, Nat.reduceLeDiff, Nat.reduceLT, Nat.reduceEqDiff, Nat.reduceBEq, Int.reduceAdd, Int.reduceSub, Int.reduceMul, Int.reduceNeg, Int.reduceToNat, Int.reduceLE, Int.reduceLT, Int.reduceEq, Int.reduceGE, Int.reduceGT, ↓reduceIte, reduceCtorEq, gm_pe, gm_pn, gc_put, gl_put, gs_put, cd_X4_price, hR1.f, iI_rt]
    refine ⟨fun q => absurd q (by omega), fun _ => ⟨R, hRR, by rw [z3 _ (by omega)], hk1, hS⟩⟩
theorem m_victims {n : Int} (hM : MS G o N L T) (hB : RowB K N) (hn : i32 n) : Tri X 7 Y_X4_victims [.ref o, .int (iI n)] 0 0 G (fun r G' => ∃ R, RtA N n 1 R ∧ MOut G o N L T (askZ N n 1 R (fun l _ => vicN N l)) none r G') := by
  obtain ⟨M, V, hR, rfl, hL, hT⟩ := hM.get
  refine Tri.of (by decide +kernel) (Nat.le_of_ble_eq_true rfl) ?_
  refine exS rfl 6 _ _ _ _ _ _ ?_
  simp (disch := omega) only [exB, Nat.reduceAdd, Nat.reduceSub, Nat.reduceMul, Nat.reduceLeDiff, Nat.reduceLT, Nat.reduceEqDiff, Nat.reduceBEq, Int.reduceAdd, Int.reduceSub, Int.reduceMul, Int.reduceNeg, Int.reduceToNat, Int.reduceLE, Int.reduceLT, Int.reduceEq, Int.reduceGE, Int.reduceGT, ↓reduceIte, reduceCtorEq, gm_pe, gm_pn, gc_put, gl_put, gs_put, cd_X4_victims, hR.f]
  refine gCall.of (m_refused hR hB hn (h := 1) (by decide)) (by decide) (by first | omega | decide) (by first | omega | decide) ?_
  rintro r G1 ⟨R, hRR, rfl, hk1, M', V', hR1, hf, hv, hz⟩
  obtain ⟨z1, z2, z3⟩ := refZ_b (N := M 0) (n := n) (h := 1) (R := R)
  have hS := ask_same hL hT hR1 hf hv
  have e0 : M' 0 = M 0 := hf 0 (by decide) (by decide) (by decide)
  rcases z2 with z2 | z2
  · obtain ⟨l, c, rfl, a1, a2, a3, a4, a5, a6⟩ := hz z2
    rw [z2]
    refine exS rfl 12 _ _ _ _ _ _ ?_
    simp (disch := omega) only [exB, Nat.reduceAdd, Nat.reduceSub, Nat.reduceMul, Nat.reduceLeDiff, Nat.reduceLT, Nat.reduceEqDiff, Nat.reduceBEq, Int.reduceAdd, Int.reduceSub, Int.reduceMul, Int.reduceNeg, Int.reduceToNat, Int.reduceLE, Int.reduceLT, Int.reduceEq, Int.reduceGE, Int.reduceGT, ↓reduceIte, reduceCtorEq, gm_pe, gm_pn, gc_put, gl_put, gs_put, cd_X4_victims, hR1.f, iI_rt]
    refine gCall.of (m_victimsOf hR1 a3 (by rw [e0]; exact hB.2.1.1)) (by decide) (by first | omega | decide) (by first | omega | decide) ?_
    rintro r G' ⟨rfl, rfl⟩
    refine exS rfl 2 _ _ _ _ _ _ ?_
    simp (disch := omega) only [exB, Nat.reduceAdd, Nat.reduceSub, Nat.reduceMul, Nat.reduceLeDiff, Nat.reduceLT, Nat.reduceEqDiff, Nat.reduceBEq, Int.reduceAdd, Int.reduceSub, Int.reduceMul, Int.reduceNeg, Int.reduceToNat, Int.reduceLE, Int.reduceLT, Int.reduceEq, Int.reduceGE, Int.reduceGT, ↓reduceIte, reduceCtorEq, gm_pe, gm_pn, gc_put, gl_put, gs_put, cd_X4_victims]
    exact ⟨_, hRR, by rw [e0, askZ_s a1 a2], hk1, hS⟩
  · refine exS rfl 12 _ _ _ _ _ _ ?_
    simp (disch := omega) only [exB, Nat.reduceAdd, Nat.reduceSub, Nat.reduceMul, Nat.reduceLeDiff, Nat.reduceLT, Nat.reduceEqDiff, Nat.reduceBEq, Int.reduceAdd, Int.reduceSub, Int.reduceMul, Int.reduceNeg, Int.reduceToNat, Int.reduceLE, Int.reduceLT, Int.reduceEq, Int.reduceGE, Int.reduceGT, ↓reduceIte, reduceCtorEq, gm_pe, gm_pn, gc_put, gl_put, gs_put, cd_X4_victims, hR1.f, iI_rt]
    refine ⟨fun q => absurd q (by omega), fun _ => ⟨R, hRR, by rw [z3 _ (by omega)], hk1, hS⟩⟩
theorem m_routeAt {n h i : Int} (hM : MS G o N L T) (hB : RowB K N) (hn : i32 n) (hh : i32 h) (hi : i32 i) : Tri X 7 Y_X4_routeAt [.ref o, .int (iI n), .int (iI h), .int (iI i)] 0 0 G (fun r G' => ∃ R, (0 ≤ i → RtA N n h R) ∧ MOut G o N L T (if i < 0 then -1000001 else askZ N n h R (fun l _ => if i < l.length then l[i.toNat]?.getD 0 else -1000004)) none r G') := by
  obtain ⟨M, V, hR, rfl, hL, hT⟩ := hM.get
  refine Tri.of (by decide +kernel) (Nat.le_of_ble_eq_true rfl) ?_
  refine exS rfl 6 _ _ _ _ _ _ ?_
  simp (disch := omega) only [exB, Nat.reduceAdd, Nat.reduceSub, Nat.reduceMul, Nat.reduceLeDiff, Nat.reduceLT, Nat.reduceEqDiff, Nat.reduceBEq, Int.reduceAdd, Int.reduceSub, Int.reduceMul, Int.reduceNeg, Int.reduceToNat, Int.reduceLE, Int.reduceLT, Int.reduceEq, Int.reduceGE, Int.reduceGT, ↓reduceIte, reduceCtorEq, gm_pe, gm_pn, gc_put, gl_put, gs_put, cd_X4_routeAt, hR.f, iI_rt]
  refine ⟨fun h0 => ?_, fun h0 => ⟨none, fun q => absurd q h0, by rw [if_pos (by omega)], MK.refl, MS.mk hR rfl hL hT⟩⟩
  have e9 : ∀ z : Int, (if i < 0 then -1000001 else z) = z := fun z => if_neg (by omega)
  refine gCall.of (m_refused hR hB hn hh) (by decide) (by first | omega | decide) (by first | omega | decide) ?_
  rintro r G1 ⟨R, hRR, rfl, hk1, M', V', hR1, hf, hv, hz⟩
  obtain ⟨z1, z2, z3⟩ := refZ_b (N := M 0) (n := n) (h := h) (R := R)
  have hS := ask_same hL hT hR1 hf hv
  rcases z2 with z2 | z2
  · obtain ⟨l, c, rfl, a1, a2, ⟨b1, b2, b3, b4⟩, a4, a5, a6⟩ := hz z2
    rw [z2]
    by_cases hi2 : i < l.length
    · have hx := b4 i.toNat (l[i.toNat]'(by omega)) (List.getElem?_eq_getElem _)
      rw [show ((i.toNat : Nat) : Int) = i from by omega] at hx
      refine exS rfl 20 _ _ _ _ _ _ ?_
      simp (disch := omega) only [exB, Nat.reduceAdd, Nat.reduceSub, Nat.reduceMul, Nat.reduceLeDiff, Nat.reduceLT, Nat.reduceEqDiff, Nat.reduceBEq, Int.reduceAdd, Int.reduceSub, Int.reduceMul, Int.reduceNeg, Int.reduceToNat, Int.reduceLE, Int.reduceLT, Int.reduceEq, Int.reduceGE, Int.reduceGT, ↓reduceIte, reduceCtorEq, gm_pe, gm_pn, gc_put, gl_put, gs_put, cd_X4_routeAt, hR1.f, iI_rt, b1]
      refine ⟨fun q => absurd q (by omega), fun _ => ⟨h0, by omega, _, fun _ => hRR, ?_, hk1, hS⟩⟩
      rw [e9, askZ_s a1 a2, if_pos hi2, List.getElem?_eq_getElem (by omega), hx]
      rfl
    · refine exS rfl 20 _ _ _ _ _ _ ?_
      simp (disch := omega) only [exB, Nat.reduceAdd, Nat.reduceSub, Nat.reduceMul, Nat.reduceLeDiff, Nat.reduceLT, Nat.reduceEqDiff, Nat.reduceBEq, Int.reduceAdd, Int.reduceSub, Int.reduceMul, Int.reduceNeg, Int.reduceToNat, Int.reduceLE, Int.reduceLT, Int.reduceEq, Int.reduceGE, Int.reduceGT, ↓reduceIte, reduceCtorEq, gm_pe, gm_pn, gc_put, gl_put, gs_put, cd_X4_routeAt, hR1.f, iI_rt, b1]
      refine ⟨fun _ => ⟨_, fun _ => hRR, ?_, hk1, hS⟩, fun q => absurd q (by omega)⟩
      rw [e9, askZ_s a1 a2, if_neg hi2]
  · refine exS rfl 20 _ _ _ _ _ _ ?_
    simp (disch := omega) only [exB, Nat.reduceAdd, Nat.reduceSub, Nat.reduceMul, Nat.reduceLeDiff, Nat.reduceLT, Nat.reduceEqDiff, Nat.reduceBEq, Int.reduceAdd, Int.reduceSub, Int.reduceMul, Int.reduceNeg, Int.reduceToNat, Int.reduceLE, Int.reduceLT, Int.reduceEq, Int.reduceGE, Int.reduceGT, ↓reduceIte, reduceCtorEq, gm_pe, gm_pn, gc_put, gl_put, gs_put, cd_X4_routeAt, hR1.f, iI_rt]
    refine ⟨fun q => absurd q (by omega), fun _ => ⟨R, fun _ => hRR, by rw [e9, z3 _ (by omega)], hk1, hS⟩⟩
end
