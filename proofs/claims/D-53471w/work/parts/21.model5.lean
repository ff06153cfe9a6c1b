/-! THE MODEL 5: give, net -/
set_option maxRecDepth 100000
set_option maxHeartbeats 4000000
/-- nets' numbers are in bounds -/
def NetOK (N : Int → Int) : Prop := ∀ n, isN N n → (0 ≤ N (169 + 9 * n) ∧ N (169 + 9 * n) ≤ 80) ∧ (0 ≤ N (169 + 9 * n + 1) ∧ N (169 + 9 * n + 1) ≤ 80) ∧ (-1 ≤ N (169 + 9 * n + 2) ∧ N (169 + 9 * n + 2) ≤ 80) ∧ (0 ≤ N (169 + 9 * n + 3) ∧ N (169 + 9 * n + 3) ≤ 9) ∧ (0 ≤ N (169 + 9 * n + 4) ∧ N (169 + 9 * n + 4) ≤ 10000000) ∧ (0 ≤ N (169 + 9 * n + 5) ∧ N (169 + 9 * n + 5) ≤ 1)
abbrev okGive (N : Int → Int) (n c : Int) : Prop := isN N n ∧ 1 ≤ c ∧ c ≤ 9999
abbrev canGive (N : Int → Int) (n c : Int) : Prop := N (169 + 9 * n + 4) + c ≤ 100000
def giveN (N : Int → Int) (n c : Int) : Int → Int := uN N (169 + 9 * n + 4) (N (169 + 9 * n + 4) + c)
abbrev okNet (a b c s p : Int) : Prop := (0 ≤ a ∧ a ≤ 80) ∧ (0 ≤ b ∧ b ≤ 80) ∧ (-1 ≤ c ∧ c ≤ 80) ∧ (0 ≤ s ∧ s ≤ 9) ∧ (0 ≤ p ∧ p ≤ 9999) ∧ a ≠ b ∧ a ≠ c ∧ b ≠ c
abbrev fr (N : Int → Int) (p : Int) : Prop := N (7 + p) = 0 ∧ N (88 + p) = 0
abbrev canNet (N : Int → Int) (a b c : Int) : Prop := fr N a ∧ fr N b ∧ (0 ≤ c → fr N c)
def pinN (N : Int → Int) (p v : Int) : Int → Int := if 0 ≤ p then uN (uN N (7 + p) v) (88 + p) v else N
def netN (N : Int → Int) (a b c s p : Int) : Int → Int :=
  let n := N 5
  let at0 := 169 + 9 * n
  let N1 := uN (uN (uN (uN (uN N at0 a) (at0 + 1) b) (at0 + 2) c) (at0 + 3) s) (at0 + 4) p
  uN (pinN (pinN (pinN N1 a (11 + n)) b (11 + n)) c (11 + n)) 5 (n + 1)
section
variable {X : gX} {G : gH} {o : Nat} {N : Int → Int} {L : List (Int → Int)} {T : List Int} {M : Nat → Int → Int} {V : Nat → Int}
theorem m_give {n c : Int} (hM : MS G o N L T) (hO : NumOK N) (hP : NetOK N) (hn : i32 n) (hc : i32 c) : Tri X 3 Y_X4_give [.ref o, .int (iI n), .int (iI c)] 0 0 G (MOut G o N L T (if okGive N n c then (if canGive N n c then N (169 + 9 * n + 4) + c else -1000003) else -1000001) (if okGive N n c ∧ canGive N n c then some (giveN N n c) else none)) := by
  obtain ⟨M, V, hR, rfl, hL, hT⟩ := hM.get
  have hb := hL.b
  obtain ⟨hO1, hO2⟩ := hO
  refine Tri.of (by decide +kernel) (Nat.le_of_ble_eq_true rfl) ?_
  generalize hQ : MOut G o (M 0) L T (if okGive (M 0) n c then (if canGive (M 0) n c then (M 0) (169 + 9 * n + 4) + c else -1000003) else -1000001) (if okGive (M 0) n c ∧ canGive (M 0) n c then some (giveN (M 0) n c) else none) = Q
  have hf : ¬ okGive (M 0) n c → Q (some (.int (iI (-1000001)))) G := by
    intro h
    rw [if_neg h, if_neg (fun q => h q.1)] at hQ
    subst hQ
    exact ⟨rfl, MK.refl, hM⟩
  refine exS rfl 6 _ _ _ _ _ _ ?_
  simp (disch := omega) only [exB, Nat.reduceAdd, Nat.reduceSub, Nat.reduceMul, Nat.reduceLeDiff, Nat.reduceLT, Nat.reduceEqDiff, Nat.reduceBEq, Int.reduceAdd, Int.reduceSub, Int.reduceMul, Int.reduceNeg, Int.reduceToNat, Int.reduceLE, Int.reduceLT, Int.reduceEq, Int.reduceGE, Int.reduceGT, ↓reduceIte, reduceCtorEq, gm_pe, gm_pn, gc_put, gl_put, gs_put, cd_X4_give, hR.f]
  refine gCall.of (m_isNet hR hn (by omega)) (by decide) (by first | omega | decide) (by first | omega | decide) ?_
  rintro r G' ⟨rfl, rfl⟩
  by_cases h : isN (M 0) n
  · rw [if_pos h]
    refine exS rfl 6 _ _ _ _ _ _ ?_
    simp (disch := omega) only [exB, Nat.reduceAdd, Nat.reduceSub, Nat.reduceMul, Nat.reduceLeDiff, Nat.reduceLT, Nat.reduceEqDiff, Nat.reduceBEq, Int.reduceAdd, Int.reduceSub, Int.reduceMul, Int.reduceNeg, Int.reduceToNat, Int.reduceLE, Int.reduceLT, Int.reduceEq, Int.reduceGE, Int.reduceGT, ↓reduceIte, reduceCtorEq, gm_pe, gm_pn, gc_put, gl_put, gs_put, cd_X4_give, hR.f, iI_rt]
    refine gCall.of (m_in hc (by decide) (by decide)) (by decide) (by first | omega | decide) (by first | omega | decide) ?_
    rintro r G' ⟨rfl, rfl⟩
    by_cases h2 : 1 ≤ c ∧ c ≤ 9999
    · rw [if_pos h2]
      have hok : okGive (M 0) n c := ⟨h, h2.1, h2.2⟩
      obtain ⟨-, -, -, -, hp4, -⟩ := hP n h
      unfold isN at h
      refine exS rfl 6 _ _ _ _ _ _ ?_
      simp (disch := omega) only [exB, Nat.reduceAdd, Nat.reduceSub, Nat.reduceMul, Nat.reduceLeDiff, Nat.reduceLT, Nat.reduceEqDiff, Nat.reduceBEq, Int.reduceAdd, Int.reduceSub, Int.reduceMul, Int.reduceNeg, Int.reduceToNat, Int.reduceLE, Int.reduceLT, Int.reduceEq, Int.reduceGE, Int.reduceGT, ↓reduceIte, reduceCtorEq, gm_pe, gm_pn, gc_put, gl_put, gs_put, cd_X4_give, hR.f, iI_rt]
      refine gCall.of (m_of hR (by omega)) (by decide) (by first | omega | decide) (by first | omega | decide) ?_
      rintro r G' ⟨rfl, rfl⟩
      refine exS rfl 6 _ _ _ _ _ _ ?_
      simp (disch := omega) only [exB, Nat.reduceAdd, Nat.reduceSub, Nat.reduceMul, Nat.reduceLeDiff, Nat.reduceLT, Nat.reduceEqDiff, Nat.reduceBEq, Int.reduceAdd, Int.reduceSub, Int.reduceMul, Int.reduceNeg, Int.reduceToNat, Int.reduceLE, Int.reduceLT, Int.reduceEq, Int.reduceGE, Int.reduceGT, ↓reduceIte, reduceCtorEq, gm_pe, gm_pn, gc_put, gl_put, gs_put, cd_X4_give, hR.f, iI_rt]
      refine ⟨fun h3 => ?_, fun h3 => ?_⟩
      · rw [if_pos hok, if_pos h3, if_pos ⟨hok, h3⟩] at hQ
        refine gCall.of (m_copy hR) (by decide) (by first | omega | decide) (by first | omega | decide) ?_
        rintro r G1 ⟨rfl, hk1, hR1⟩
        refine exS rfl 6 _ _ _ _ _ _ ?_
        simp (disch := omega) only [exB, Nat.reduceAdd, Nat.reduceSub, Nat.reduceMul, Nat.reduceLeDiff, Nat.reduceLT, Nat.reduceEqDiff, Nat.reduceBEq, Int.reduceAdd, Int.reduceSub, Int.reduceMul, Int.reduceNeg, Int.reduceToNat, Int.reduceLE, Int.reduceLT, Int.reduceEq, Int.reduceGE, Int.reduceGT, ↓reduceIte, reduceCtorEq, gm_pe, gm_pn, gc_put, gl_put, gs_put, cd_X4_give, hR1.f]
        have e1 : (if (0 : Nat) = 1 ∧ 0 ≤ 169 + 9 * n + 4 ∧ 169 + 9 * n + 4 < 379 then M 0 (169 + 9 * n + 4) else M 0 (169 + 9 * n + 4)) = M 0 (169 + 9 * n + 4) := by split <;> rfl
        refine gCall.of (m_adds (w := 4) (b := c) hR1 (by omega) (by rw [e1]; omega)) (by decide) (by first | omega | decide) (by first | omega | decide) ?_
        rintro r G2 ⟨rfl, hk2, hR2⟩
        refine exS rfl 6 _ _ _ _ _ _ ?_
        simp (disch := omega) only [exB, Nat.reduceAdd, Nat.reduceSub, Nat.reduceMul, Nat.reduceLeDiff, Nat.reduceLT, Nat.reduceEqDiff, Nat.reduceBEq, Int.reduceAdd, Int.reduceSub, Int.reduceMul, Int.reduceNeg, Int.reduceToNat, Int.reduceLE, Int.reduceLT, Int.reduceEq, Int.reduceGE, Int.reduceGT, ↓reduceIte, reduceCtorEq, gm_pe, gm_pn, gc_put, gl_put, gs_put, cd_X4_give, hR2.f]
        refine gCall.of (m_of hR2 (n := n) (w := 4) (by omega)) (by decide) (by first | omega | decide) (by first | omega | decide) ?_
        rintro r G3 ⟨rfl, rfl⟩
        have e2 : uM (fun f j => if f = 1 ∧ 0 ≤ j ∧ j < 379 then M 0 j else M f j) 0 (169 + 9 * n + 4) ((if (0 : Nat) = 1 ∧ 0 ≤ 169 + 9 * n + 4 ∧ 169 + 9 * n + 4 < 379 then M 0 (169 + 9 * n + 4) else M 0 (169 + 9 * n + 4)) + c) 0 = giveN (M 0) n c := by
          funext j
          simp [uM, giveN, uN]
        rw [e2]
        have e3 : giveN (M 0) n c (169 + 9 * n + 4) = M 0 (169 + 9 * n + 4) + c := by simp [giveN, uN]
        rw [e3]
        refine exS rfl 2 _ _ _ _ _ _ ?_
        simp (disch := omega) only [exB, Nat.reduceAdd, Nat.reduceSub, Nat.reduceMul, Nat.reduceLeDiff, Nat.reduceLT, Nat.reduceEqDiff, Nat.reduceBEq, Int.reduceAdd, Int.reduceSub, Int.reduceMul, Int.reduceNeg, Int.reduceToNat, Int.reduceLE, Int.reduceLT, Int.reduceEq, Int.reduceGE, Int.reduceGT, ↓reduceIte, reduceCtorEq, gm_pe, gm_pn, gc_put, gl_put, gs_put, cd_X4_give, hR2.f]
        refine gCall.of (m_recorded hR2 (by omega) (by omega) hb.1 hb.2) (by decide) (by first | omega | decide) (by first | omega | decide) ?_
        rintro r G4 ⟨rfl, hk4, hR4⟩
        refine exS rfl 2 _ _ _ _ _ _ ?_
        simp (disch := omega) only [exB, Nat.reduceAdd, Nat.reduceSub, Nat.reduceMul, Nat.reduceLeDiff, Nat.reduceLT, Nat.reduceEqDiff, Nat.reduceBEq, Int.reduceAdd, Int.reduceSub, Int.reduceMul, Int.reduceNeg, Int.reduceToNat, Int.reduceLE, Int.reduceLT, Int.reduceEq, Int.reduceGE, Int.reduceGT, ↓reduceIte, reduceCtorEq, gm_pe, gm_pn, gc_put, gl_put, gs_put, cd_X4_give]
        subst hQ
        refine ⟨rfl, (hk1.trans hk2).trans hk4, MS.recN hR4 (fun j => by rw [e2]) ?_ hL hT ?_ ?_ rfl rfl rfl⟩
        · intro j j0 j1
          simp only [uM]
          grind
        · intro j; simp [uM]
        · intro j; simp [uM]
      · rw [if_pos hok, if_neg h3, if_neg (fun q => h3 q.2)] at hQ
        subst hQ
        exact ⟨rfl, MK.refl, hM⟩
    · rw [if_neg h2]
      refine exS rfl 6 _ _ _ _ _ _ ?_
      simp (disch := omega) only [exB, Nat.reduceAdd, Nat.reduceSub, Nat.reduceMul, Nat.reduceLeDiff, Nat.reduceLT, Nat.reduceEqDiff, Nat.reduceBEq, Int.reduceAdd, Int.reduceSub, Int.reduceMul, Int.reduceNeg, Int.reduceToNat, Int.reduceLE, Int.reduceLT, Int.reduceEq, Int.reduceGE, Int.reduceGT, ↓reduceIte, reduceCtorEq, gm_pe, gm_pn, gc_put, gl_put, gs_put, cd_X4_give, iI_rt]
      exact hf (fun q => h2 q.2)
  · rw [if_neg h]
    refine exS rfl 6 _ _ _ _ _ _ ?_
    simp (disch := omega) only [exB, Nat.reduceAdd, Nat.reduceSub, Nat.reduceMul, Nat.reduceLeDiff, Nat.reduceLT, Nat.reduceEqDiff, Nat.reduceBEq, Int.reduceAdd, Int.reduceSub, Int.reduceMul, Int.reduceNeg, Int.reduceToNat, Int.reduceLE, Int.reduceLT, Int.reduceEq, Int.reduceGE, Int.reduceGT, ↓reduceIte, reduceCtorEq, gm_pe, gm_pn, gc_put, gl_put, gs_put, cd_X4_give, iI_rt]
    exact hf (fun q => h q.1)
theorem uM_0 {M : Nat → Int → Int} {z v : Int} : uM M 0 z v 0 = uN (M 0) z v := by funext j; simp [uM, uN]
theorem uM_n {M : Nat → Int → Int} {z v : Int} {f : Nat} (h : f ≠ 0) : uM M 0 z v f = M f := by funext j; simp [uM, h]
/-- the loop that lays the pins: from k on -/
def pinsN (a b c v : Int) (k : Nat) (N : Int → Int) : Int → Int := if k = 0 then pinN (pinN (pinN N a v) b v) c v else if k = 1 then pinN (pinN N b v) c v else if k = 2 then pinN N c v else N
theorem m_net {a b c s p : Int} (hM : MS G o N L T) (hO : NumOK N) (ha : i32 a) (hb' : i32 b) (hc : i32 c) (hs : i32 s) (hp : i32 p) : Tri X 3 Y_X4_net [.ref o, .int (iI a), .int (iI b), .int (iI c), .int (iI s), .int (iI p)] 0 0 G (MOut G o N L T (if okNet a b c s p then (if canNet N a b c then (if N 5 = 6 then -1000003 else N 5) else -1000002) else -1000001) (if okNet a b c s p ∧ canNet N a b c ∧ N 5 ≠ 6 then some (netN N a b c s p) else none)) := by
  obtain ⟨M, V, hR, rfl, hL, hT⟩ := hM.get
  have hb := hL.b
  obtain ⟨hO1, hO2⟩ := hO
  refine Tri.of (by decide +kernel) (Nat.le_of_ble_eq_true rfl) ?_
  generalize hQ : MOut G o (M 0) L T (if okNet a b c s p then (if canNet (M 0) a b c then (if M 0 5 = 6 then -1000003 else M 0 5) else -1000002) else -1000001) (if okNet a b c s p ∧ canNet (M 0) a b c ∧ M 0 5 ≠ 6 then some (netN (M 0) a b c s p) else none) = Q
  generalize hl : [some (Value.ref o), some (.int (iI a)), some (.int (iI b)), some (.int (iI c)), some (.int (iI s)), some (.int (iI p)), none, none, none, none] = l0
  have hf : ¬ okNet a b c s p → Wp X Y_X4_net 3 Q 0 0 G 72 l0 [] := by
    intro h
    rw [if_neg h, if_neg (fun q => h q.1)] at hQ
    subst hQ; subst hl
    refine exS rfl 9 _ _ _ _ _ _ ?_
    simp (disch := omega) only [exB, Nat.reduceAdd, Nat.reduceSub, Nat.reduceMul, Nat.reduceLeDiff, Nat.reduceLT, Nat.reduceEqDiff, Nat.reduceBEq, Int.reduceAdd, Int.reduceSub, Int.reduceMul, Int.reduceNeg, Int.reduceToNat, Int.reduceLE, Int.reduceLT, Int.reduceEq, Int.reduceGE, Int.reduceGT, ↓reduceIte, reduceCtorEq, gm_pe, gm_pn, gc_put, gl_put, gs_put, cd_X4_net, iI_rt]
    exact ⟨rfl, MK.refl, hM⟩
  have hf2 : okNet a b c s p → ¬ canNet (M 0) a b c → Q (some (.int (iI (-1000002)))) G := by
    intro h h'
    rw [if_pos h, if_neg h', if_neg (fun q => h' q.2.1)] at hQ
    subst hQ
    exact ⟨rfl, MK.refl, hM⟩
  have hf3 : okNet a b c s p → canNet (M 0) a b c → Wp X Y_X4_net 3 Q 0 0 G 114 [some (Value.ref o), some (.int (iI a)), some (.int (iI b)), some (.int (iI c)), some (.int (iI s)), some (.int (iI p)), some (.int (iI 1)), none, none, none] [] := by
    intro hok hcan
    rw [if_pos hok, if_pos hcan] at hQ
    obtain ⟨k1, k2, k3, k4, k5, k6, k7, k8⟩ := hok
    refine exS rfl 12 _ _ _ _ _ _ ?_
    simp (disch := omega) only [exB, Nat.reduceAdd, Nat.reduceSub, Nat.reduceMul, Nat.reduceLeDiff, Nat.reduceLT, Nat.reduceEqDiff, Nat.reduceBEq, Int.reduceAdd, Int.reduceSub, Int.reduceMul, Int.reduceNeg, Int.reduceToNat, Int.reduceLE, Int.reduceLT, Int.reduceEq, Int.reduceGE, Int.reduceGT, ↓reduceIte, reduceCtorEq, gm_pe, gm_pn, gc_put, gl_put, gs_put, cd_X4_net, hR.f, iI_rt]
    refine ⟨fun h6 => ?_, fun h6 => ?_⟩
    case refine_2 =>
      have h6 := Classical.not_not.mp h6
      rw [if_pos h6, if_neg (fun q => q.2.2 h6)] at hQ
      subst hQ
      exact ⟨rfl, MK.refl, hM⟩
    rw [if_neg h6, if_pos ⟨⟨k1, k2, k3, k4, k5, k6, k7, k8⟩, hcan, h6⟩] at hQ
    refine gCall.of (m_copy hR) (by decide) (by first | omega | decide) (by first | omega | decide) ?_
    rintro r G1 ⟨rfl, hk1, hR1⟩
    generalize hM1 : (fun f j => if f = 1 ∧ 0 ≤ j ∧ j < 379 then M 0 j else M f j) = M1 at hR1
    have e10 : M1 0 = M 0 := by rw [← hM1]; funext j; simp
    generalize hn : M 0 5 = n at hQ hO1 h6
    have e15 : M1 0 5 = n := by rw [e10, hn]
    refine excS rfl 204 60 _ _ _ _ _ _ ?_
    simp (disch := omega) only [exB, Nat.reduceAdd, Nat.reduceSub, Nat.reduceMul, Nat.reduceLeDiff, Nat.reduceLT, Nat.reduceEqDiff, Nat.reduceBEq, Int.reduceAdd, Int.reduceSub, Int.reduceMul, Int.reduceNeg, Int.reduceToNat, Int.reduceLE, Int.reduceLT, Int.reduceEq, Int.reduceGE, Int.reduceGT, ↓reduceIte, reduceCtorEq, gm_pe, gm_pn, gc_put, gl_put, gs_put, cd_X4_net, hR1.f, iI_rt, e15]
    refine ⟨by omega, by omega, by omega, by omega, by omega, by omega, by omega, by omega, by omega, by omega, ?_⟩
    have hR2 := ((((hR1.putA 0 (z := 169 + 9 * n) (v := a) (by decide) (by omega) ha).putA 0 (z := 169 + 9 * n + 1) (v := b) (by decide) (by omega) hb').putA 0 (z := 169 + 9 * n + 2) (v := c) (by decide) (by omega) hc).putA 0 (z := 169 + 9 * n + 3) (v := s) (by decide) (by omega) hs).putA 0 (z := 169 + 9 * n + 4) (v := p) (by decide) (by omega) hp
    change MR (gput (gput (gput (gput (gput G1 (o + 1) _ _) (o + 1) _ _) (o + 1) _ _) (o + 1) _ _) (o + 1) _ _) o _ _ at hR2
    have hk2 := ((((hk1.put (a := o + 1) (j := (169 + 9 * n).toNat) (v := .int (iI a)) (by omega)).put (a := o + 1) (j := (169 + 9 * n + 1).toNat) (v := .int (iI b)) (by omega)).put (a := o + 1) (j := (169 + 9 * n + 2).toNat) (v := .int (iI c)) (by omega)).put (a := o + 1) (j := (169 + 9 * n + 3).toNat) (v := .int (iI s)) (by omega)).put (a := o + 1) (j := (169 + 9 * n + 4).toNat) (v := .int (iI p)) (by omega)
    generalize gput (gput (gput (gput (gput G1 (o + 1) _ _) (o + 1) _ _) (o + 1) _ _) (o + 1) _ _) (o + 1) _ _ = G2 at hR2 hk2 ⊢
    generalize hM2 : uM (uM (uM (uM (uM M1 0 (169 + 9 * n) a) 0 (169 + 9 * n + 1) b) 0 (169 + 9 * n + 2) c) 0 (169 + 9 * n + 3) s) 0 (169 + 9 * n + 4) p = M2 at hR2
    have it : ∀ (k q : Int) (G' : gH) (M' : Nat → Int → Int), 0 ≤ k → k < 3 → MR G' o M' V → M' 0 (169 + 9 * n + k) = q → -1 ≤ q → q ≤ 80 → (∀ G3 M3, MR G3 o M3 V → M3 0 = pinN (M' 0) q (11 + n) → (∀ f, f ≠ 0 → M3 f = M' f) → MK G' G3 o → Wp X Y_X4_net 3 Q 0 0 G3 204 [some (Value.ref o), some (.int (iI a)), some (.int (iI b)), some (.int (iI c)), some (.int (iI s)), some (.int (iI p)), some (.int (iI 1)), some (.int (iI n)), some (.int (iI (169 + 9 * n))), some (.int (iI (k + 1)))] []) → Wp X Y_X4_net 3 Q 0 0 G' 204 [some (Value.ref o), some (.int (iI a)), some (.int (iI b)), some (.int (iI c)), some (.int (iI s)), some (.int (iI p)), some (.int (iI 1)), some (.int (iI n)), some (.int (iI (169 + 9 * n))), some (.int (iI k))] [] := by
      intro k q G' M' h0 h1 hR' hq q0 q1 kk
      refine excS rfl 204 60 _ _ _ _ _ _ ?_
      simp (disch := omega) only [exB, Nat.reduceAdd, Nat.reduceSub, Nat.reduceMul, Nat.reduceLeDiff, Nat.reduceLT, Nat.reduceEqDiff, Nat.reduceBEq, Int.reduceAdd, Int.reduceSub, Int.reduceMul, Int.reduceNeg, Int.reduceToNat, Int.reduceLE, Int.reduceLT, Int.reduceEq, Int.reduceGE, Int.reduceGT, ↓reduceIte, reduceCtorEq, gm_pe, gm_pn, gc_put, gl_put, gs_put, cd_X4_net, hR'.f, iI_rt, hq]
      refine ⟨fun h => absurd h (by omega), fun _ => ?_⟩
      refine ⟨by omega, by omega, fun hl => ?_, fun hl => ?_⟩
      · exact kk G' M' hR' (by unfold pinN; rw [if_neg (by omega)]) (fun f _ => rfl) MK.refl
      · have hR3 := (hR'.putA 0 (z := 7 + q) (v := 11 + n) (by decide) (by omega) (by omega)).putA 0 (z := 88 + q) (v := 11 + n) (by decide) (by omega) (by omega)
        refine ⟨by omega, by omega, by omega, by omega, by omega, by omega, by omega, by omega, kk _ _ hR3 ?_ (fun f hf => by rw [uM_n hf, uM_n hf]) ((MK.refl.put (by omega)).put (by omega))⟩
        unfold pinN
        rw [if_pos (by omega), uM_0, uM_0]
    have z0 : M2 0 = uN (uN (uN (uN (uN (M 0) (169 + 9 * n) a) (169 + 9 * n + 1) b) (169 + 9 * n + 2) c) (169 + 9 * n + 3) s) (169 + 9 * n + 4) p := by
      rw [← hM2]; simp only [uM_0, e10]
    have pin_ne : ∀ (N : Int → Int) (q v z : Int), -1 ≤ q → q ≤ 80 → 169 ≤ z → pinN N q v z = N z := by
      intro N q v z h1 h2 h3
      unfold pinN uN
      split
      · simp only; rw [if_neg (by omega), if_neg (by omega)]
      · rfl
    refine it 0 a G2 M2 (by decide) (by decide) hR2 (by rw [z0]; simp only [uN]; grind) (by omega) (by omega) ?_
    intro G3 M3 hR3 p3 o3 hk3
    refine it 1 b G3 M3 (by decide) (by decide) hR3 (by rw [p3, pin_ne _ _ _ _ (by omega) (by omega) (by omega), z0]; simp only [uN]; grind) (by omega) (by omega) ?_
    intro G4 M4 hR4 p4 o4 hk4
    refine it 2 c G4 M4 (by decide) (by decide) hR4 (by rw [p4, pin_ne _ _ _ _ (by omega) (by omega) (by omega), p3, pin_ne _ _ _ _ (by omega) (by omega) (by omega), z0]; simp only [uN]; grind) (by omega) (by omega) ?_
    intro G5 M5 hR5 p5 o5 hk5
    have pin_5 : ∀ (N : Int → Int) (q v : Int), -1 ≤ q → pinN N q v 5 = N 5 := by
      intro N q v h1
      unfold pinN uN
      split
      · simp only; rw [if_neg (by omega), if_neg (by omega)]
      · rfl
    have e55 : M5 0 5 = n := by
      rw [p5, pin_5 _ _ _ (by omega), p4, pin_5 _ _ _ (by omega), p3, pin_5 _ _ _ (by omega), z0, ← hn]
      simp only [uN]; grind
    have hR6 := hR5.putA 0 (z := 5) (v := n + 1) (by decide) (by decide) (by omega)
    refine exS rfl 20 _ _ _ _ _ _ ?_
    simp (disch := omega) only [exB, Nat.reduceAdd, Nat.reduceSub, Nat.reduceMul, Nat.reduceLeDiff, Nat.reduceLT, Nat.reduceEqDiff, Nat.reduceBEq, Int.reduceAdd, Int.reduceSub, Int.reduceMul, Int.reduceNeg, Int.reduceToNat, Int.reduceLE, Int.reduceLT, Int.reduceEq, Int.reduceGE, Int.reduceGT, ↓reduceIte, reduceCtorEq, gm_pe, gm_pn, gc_put, gl_put, gs_put, cd_X4_net, hR5.f, iI_rt, e55]
    refine gCall.of (m_recorded hR6 (a := n) (by omega) (by omega) hb.1 hb.2) (by decide) (by decide) (by decide) ?_
    rintro r G7 ⟨rfl, hk7, hR7⟩
    refine exS rfl 2 _ _ _ _ _ _ ?_
    simp (disch := omega) only [exB, Nat.reduceAdd, Nat.reduceSub, Nat.reduceMul, Nat.reduceLeDiff, Nat.reduceLT, Nat.reduceEqDiff, Nat.reduceBEq, Int.reduceAdd, Int.reduceSub, Int.reduceMul, Int.reduceNeg, Int.reduceToNat, Int.reduceLE, Int.reduceLT, Int.reduceEq, Int.reduceGE, Int.reduceGT, ↓reduceIte, reduceCtorEq, gm_pe, gm_pn, gc_put, gl_put, gs_put, cd_X4_net]
    subst hQ
    have ez : uM M5 0 5 (n + 1) 0 = netN (M 0) a b c s p := by
      rw [uM_0, p5, p4, p3, z0]
      unfold netN
      rw [hn]
    refine ⟨rfl, ((((hk2.trans hk3).trans hk4).trans hk5).put (by omega)).trans hk7, MS.recN hR7 (fun j => by rw [ez]) ?_ hL hT ?_ ?_ rfl rfl rfl⟩
    · intro j j0 j1
      rw [uM_n (by decide), o5 1 (by decide), o4 1 (by decide), o3 1 (by decide), ← hM2]
      simp only [uM_n (f := 1) (by decide), ← hM1]
      rw [if_pos ⟨trivial, j0, j1⟩]
    · intro j
      rw [uM_n (by decide), o5 3 (by decide), o4 3 (by decide), o3 3 (by decide), ← hM2]
      simp only [uM_n (f := 3) (by decide), ← hM1]
      simp
    · intro j
      rw [uM_n (by decide), o5 4 (by decide), o4 4 (by decide), o3 4 (by decide), ← hM2]
      simp only [uM_n (f := 4) (by decide), ← hM1]
      simp
  subst hl
  refine exS rfl 6 _ _ _ _ _ _ ?_
  simp (disch := omega) only [exB, Nat.reduceAdd, Nat.reduceSub, Nat.reduceMul, Nat.reduceLeDiff, Nat.reduceLT, Nat.reduceEqDiff, Nat.reduceBEq, Int.reduceAdd, Int.reduceSub, Int.reduceMul, Int.reduceNeg, Int.reduceToNat, Int.reduceLE, Int.reduceLT, Int.reduceEq, Int.reduceGE, Int.reduceGT, ↓reduceIte, reduceCtorEq, gm_pe, gm_pn, gc_put, gl_put, gs_put, cd_X4_net]
  refine gCall.of (m_in ha (by decide) (by decide)) (by decide) (by first | omega | decide) (by first | omega | decide) ?_
  rintro r G' ⟨rfl, rfl⟩
  by_cases h1 : 0 ≤ a ∧ a ≤ 80
  case neg =>
    rw [if_neg h1]; refine excS rfl 72 6 _ _ _ _ _ _ ?_
    simp (disch := omega) only [exB, Nat.reduceAdd, Nat.reduceSub, Nat.reduceMul, Nat.reduceLeDiff, Nat.reduceLT, Nat.reduceEqDiff, Nat.reduceBEq, Int.reduceAdd, Int.reduceSub, Int.reduceMul, Int.reduceNeg, Int.reduceToNat, Int.reduceLE, Int.reduceLT, Int.reduceEq, Int.reduceGE, Int.reduceGT, ↓reduceIte, reduceCtorEq, gm_pe, gm_pn, gc_put, gl_put, gs_put, cd_X4_net, iI_rt]
    exact hf (fun q => h1 q.1)
  rw [if_pos h1]
  refine excS rfl 72 8 _ _ _ _ _ _ ?_
  simp (disch := omega) only [exB, Nat.reduceAdd, Nat.reduceSub, Nat.reduceMul, Nat.reduceLeDiff, Nat.reduceLT, Nat.reduceEqDiff, Nat.reduceBEq, Int.reduceAdd, Int.reduceSub, Int.reduceMul, Int.reduceNeg, Int.reduceToNat, Int.reduceLE, Int.reduceLT, Int.reduceEq, Int.reduceGE, Int.reduceGT, ↓reduceIte, reduceCtorEq, gm_pe, gm_pn, gc_put, gl_put, gs_put, cd_X4_net, iI_rt]
  refine gCall.of (m_in hb' (by decide) (by decide)) (by decide) (by first | omega | decide) (by first | omega | decide) ?_
  rintro r G' ⟨rfl, rfl⟩
  by_cases h2 : 0 ≤ b ∧ b ≤ 80
  case neg =>
    rw [if_neg h2]; refine excS rfl 72 6 _ _ _ _ _ _ ?_
    simp (disch := omega) only [exB, Nat.reduceAdd, Nat.reduceSub, Nat.reduceMul, Nat.reduceLeDiff, Nat.reduceLT, Nat.reduceEqDiff, Nat.reduceBEq, Int.reduceAdd, Int.reduceSub, Int.reduceMul, Int.reduceNeg, Int.reduceToNat, Int.reduceLE, Int.reduceLT, Int.reduceEq, Int.reduceGE, Int.reduceGT, ↓reduceIte, reduceCtorEq, gm_pe, gm_pn, gc_put, gl_put, gs_put, cd_X4_net, iI_rt]
    exact hf (fun q => h2 q.2.1)
  rw [if_pos h2]
  refine excS rfl 72 8 _ _ _ _ _ _ ?_
  simp (disch := omega) only [exB, Nat.reduceAdd, Nat.reduceSub, Nat.reduceMul, Nat.reduceLeDiff, Nat.reduceLT, Nat.reduceEqDiff, Nat.reduceBEq, Int.reduceAdd, Int.reduceSub, Int.reduceMul, Int.reduceNeg, Int.reduceToNat, Int.reduceLE, Int.reduceLT, Int.reduceEq, Int.reduceGE, Int.reduceGT, ↓reduceIte, reduceCtorEq, gm_pe, gm_pn, gc_put, gl_put, gs_put, cd_X4_net, iI_rt]
  refine gCall.of (m_in hc (by decide) (by decide)) (by decide) (by first | omega | decide) (by first | omega | decide) ?_
  rintro r G' ⟨rfl, rfl⟩
  by_cases h3 : -1 ≤ c ∧ c ≤ 80
  case neg =>
    rw [if_neg h3]; refine excS rfl 72 6 _ _ _ _ _ _ ?_
    simp (disch := omega) only [exB, Nat.reduceAdd, Nat.reduceSub, Nat.reduceMul, Nat.reduceLeDiff, Nat.reduceLT, Nat.reduceEqDiff, Nat.reduceBEq, Int.reduceAdd, Int.reduceSub, Int.reduceMul, Int.reduceNeg, Int.reduceToNat, Int.reduceLE, Int.reduceLT, Int.reduceEq, Int.reduceGE, Int.reduceGT, ↓reduceIte, reduceCtorEq, gm_pe, gm_pn, gc_put, gl_put, gs_put, cd_X4_net, iI_rt]
    exact hf (fun q => h3 q.2.2.1)
  rw [if_pos h3]
  refine excS rfl 72 8 _ _ _ _ _ _ ?_
  simp (disch := omega) only [exB, Nat.reduceAdd, Nat.reduceSub, Nat.reduceMul, Nat.reduceLeDiff, Nat.reduceLT, Nat.reduceEqDiff, Nat.reduceBEq, Int.reduceAdd, Int.reduceSub, Int.reduceMul, Int.reduceNeg, Int.reduceToNat, Int.reduceLE, Int.reduceLT, Int.reduceEq, Int.reduceGE, Int.reduceGT, ↓reduceIte, reduceCtorEq, gm_pe, gm_pn, gc_put, gl_put, gs_put, cd_X4_net, iI_rt]
  refine gCall.of (m_in hs (by decide) (by decide)) (by decide) (by first | omega | decide) (by first | omega | decide) ?_
  rintro r G' ⟨rfl, rfl⟩
  by_cases h4 : 0 ≤ s ∧ s ≤ 9
  case neg =>
    rw [if_neg h4]; refine excS rfl 72 6 _ _ _ _ _ _ ?_
    simp (disch := omega) only [exB, Nat.reduceAdd, Nat.reduceSub, Nat.reduceMul, Nat.reduceLeDiff, Nat.reduceLT, Nat.reduceEqDiff, Nat.reduceBEq, Int.reduceAdd, Int.reduceSub, Int.reduceMul, Int.reduceNeg, Int.reduceToNat, Int.reduceLE, Int.reduceLT, Int.reduceEq, Int.reduceGE, Int.reduceGT, ↓reduceIte, reduceCtorEq, gm_pe, gm_pn, gc_put, gl_put, gs_put, cd_X4_net, iI_rt]
    exact hf (fun q => h4 q.2.2.2.1)
  rw [if_pos h4]
  refine excS rfl 72 8 _ _ _ _ _ _ ?_
  simp (disch := omega) only [exB, Nat.reduceAdd, Nat.reduceSub, Nat.reduceMul, Nat.reduceLeDiff, Nat.reduceLT, Nat.reduceEqDiff, Nat.reduceBEq, Int.reduceAdd, Int.reduceSub, Int.reduceMul, Int.reduceNeg, Int.reduceToNat, Int.reduceLE, Int.reduceLT, Int.reduceEq, Int.reduceGE, Int.reduceGT, ↓reduceIte, reduceCtorEq, gm_pe, gm_pn, gc_put, gl_put, gs_put, cd_X4_net, iI_rt]
  refine gCall.of (m_in hp (by decide) (by decide)) (by decide) (by first | omega | decide) (by first | omega | decide) ?_
  rintro r G' ⟨rfl, rfl⟩
  by_cases h5 : 0 ≤ p ∧ p ≤ 9999
  case neg =>
    rw [if_neg h5]; refine excS rfl 72 6 _ _ _ _ _ _ ?_
    simp (disch := omega) only [exB, Nat.reduceAdd, Nat.reduceSub, Nat.reduceMul, Nat.reduceLeDiff, Nat.reduceLT, Nat.reduceEqDiff, Nat.reduceBEq, Int.reduceAdd, Int.reduceSub, Int.reduceMul, Int.reduceNeg, Int.reduceToNat, Int.reduceLE, Int.reduceLT, Int.reduceEq, Int.reduceGE, Int.reduceGT, ↓reduceIte, reduceCtorEq, gm_pe, gm_pn, gc_put, gl_put, gs_put, cd_X4_net, iI_rt]
    exact hf (fun q => h5 q.2.2.2.2.1)
  rw [if_pos h5]
  refine excS rfl 72 18 _ _ _ _ _ _ ?_
  simp (disch := omega) only [exB, Nat.reduceAdd, Nat.reduceSub, Nat.reduceMul, Nat.reduceLeDiff, Nat.reduceLT, Nat.reduceEqDiff, Nat.reduceBEq, Int.reduceAdd, Int.reduceSub, Int.reduceMul, Int.reduceNeg, Int.reduceToNat, Int.reduceLE, Int.reduceLT, Int.reduceEq, Int.reduceGE, Int.reduceGT, ↓reduceIte, reduceCtorEq, gm_pe, gm_pn, gc_put, gl_put, gs_put, cd_X4_net, hR.f, iI_rt]
  refine ⟨fun q => hf (fun z => z.2.2.2.2.2.1 q), fun q6 => ⟨fun q => hf (fun z => z.2.2.2.2.2.2.1 q), fun q7 => ⟨fun q => hf (fun z => z.2.2.2.2.2.2.2 q), fun q8 => ?_⟩⟩⟩
  have hok : okNet a b c s p := ⟨h1, h2, h3, h4, h5, q6, q7, q8⟩
  refine gCall.of (m_isFree hR (w := a) (by omega)) (by decide) (by first | omega | decide) (by first | omega | decide) ?_
  rintro r G' ⟨rfl, rfl⟩
  by_cases g1 : fr (M 0) a
  case neg =>
    rw [if_neg g1]; refine exS rfl 6 _ _ _ _ _ _ ?_
    simp (disch := omega) only [exB, Nat.reduceAdd, Nat.reduceSub, Nat.reduceMul, Nat.reduceLeDiff, Nat.reduceLT, Nat.reduceEqDiff, Nat.reduceBEq, Int.reduceAdd, Int.reduceSub, Int.reduceMul, Int.reduceNeg, Int.reduceToNat, Int.reduceLE, Int.reduceLT, Int.reduceEq, Int.reduceGE, Int.reduceGT, ↓reduceIte, reduceCtorEq, gm_pe, gm_pn, gc_put, gl_put, gs_put, cd_X4_net, hR.f, iI_rt]
    exact hf2 hok (fun q => g1 q.1)
  rw [if_pos g1]
  refine exS rfl 6 _ _ _ _ _ _ ?_
  simp (disch := omega) only [exB, Nat.reduceAdd, Nat.reduceSub, Nat.reduceMul, Nat.reduceLeDiff, Nat.reduceLT, Nat.reduceEqDiff, Nat.reduceBEq, Int.reduceAdd, Int.reduceSub, Int.reduceMul, Int.reduceNeg, Int.reduceToNat, Int.reduceLE, Int.reduceLT, Int.reduceEq, Int.reduceGE, Int.reduceGT, ↓reduceIte, reduceCtorEq, gm_pe, gm_pn, gc_put, gl_put, gs_put, cd_X4_net, hR.f, iI_rt]
  refine gCall.of (m_isFree hR (w := b) (by omega)) (by decide) (by first | omega | decide) (by first | omega | decide) ?_
  rintro r G' ⟨rfl, rfl⟩
  by_cases g2 : fr (M 0) b
  case neg =>
    rw [if_neg g2]; refine exS rfl 6 _ _ _ _ _ _ ?_
    simp (disch := omega) only [exB, Nat.reduceAdd, Nat.reduceSub, Nat.reduceMul, Nat.reduceLeDiff, Nat.reduceLT, Nat.reduceEqDiff, Nat.reduceBEq, Int.reduceAdd, Int.reduceSub, Int.reduceMul, Int.reduceNeg, Int.reduceToNat, Int.reduceLE, Int.reduceLT, Int.reduceEq, Int.reduceGE, Int.reduceGT, ↓reduceIte, reduceCtorEq, gm_pe, gm_pn, gc_put, gl_put, gs_put, cd_X4_net, hR.f, iI_rt]
    exact hf2 hok (fun q => g2 q.2.1)
  rw [if_pos g2]
  refine excS rfl 114 6 _ _ _ _ _ _ ?_
  simp (disch := omega) only [exB, Nat.reduceAdd, Nat.reduceSub, Nat.reduceMul, Nat.reduceLeDiff, Nat.reduceLT, Nat.reduceEqDiff, Nat.reduceBEq, Int.reduceAdd, Int.reduceSub, Int.reduceMul, Int.reduceNeg, Int.reduceToNat, Int.reduceLE, Int.reduceLT, Int.reduceEq, Int.reduceGE, Int.reduceGT, ↓reduceIte, reduceCtorEq, gm_pe, gm_pn, gc_put, gl_put, gs_put, cd_X4_net, hR.f, iI_rt]
  refine ⟨fun g3 => hf3 hok ⟨g1, g2, fun q => absurd q (by omega)⟩, fun g3 => ?_⟩
  refine gCall.of (m_isFree hR (w := c) (by omega)) (by decide) (by first | omega | decide) (by first | omega | decide) ?_
  rintro r G' ⟨rfl, rfl⟩
  by_cases g4 : fr (M 0) c
  case neg =>
    rw [if_neg g4]; refine excS rfl 114 6 _ _ _ _ _ _ ?_
    simp (disch := omega) only [exB, Nat.reduceAdd, Nat.reduceSub, Nat.reduceMul, Nat.reduceLeDiff, Nat.reduceLT, Nat.reduceEqDiff, Nat.reduceBEq, Int.reduceAdd, Int.reduceSub, Int.reduceMul, Int.reduceNeg, Int.reduceToNat, Int.reduceLE, Int.reduceLT, Int.reduceEq, Int.reduceGE, Int.reduceGT, ↓reduceIte, reduceCtorEq, gm_pe, gm_pn, gc_put, gl_put, gs_put, cd_X4_net, hR.f, iI_rt]
    exact hf2 hok (fun q => g4 (q.2.2 (by omega)))
  rw [if_pos g4]
  refine excS rfl 114 6 _ _ _ _ _ _ ?_
  simp (disch := omega) only [exB, Nat.reduceAdd, Nat.reduceSub, Nat.reduceMul, Nat.reduceLeDiff, Nat.reduceLT, Nat.reduceEqDiff, Nat.reduceBEq, Int.reduceAdd, Int.reduceSub, Int.reduceMul, Int.reduceNeg, Int.reduceToNat, Int.reduceLE, Int.reduceLT, Int.reduceEq, Int.reduceGE, Int.reduceGT, ↓reduceIte, reduceCtorEq, gm_pe, gm_pn, gc_put, gl_put, gs_put, cd_X4_net, hR.f, iI_rt]
  exact hf3 hok ⟨g1, g2, fun _ => g4⟩
end
