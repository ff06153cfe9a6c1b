/-! THE MODEL 4: block, give, net -/
set_option maxRecDepth 100000
/-- a step that is recorded: the copy, then changes of the row alone -/
theorem MS.recN {G : gH} {o : Nat} {M M' : Nat → Int → Int} {V V' : Nat → Int} {N : Int → Int} {L : List (Int → Int)} {T : List Int} (hR : MR G o (recM M' (V' 6)) (recV V')) (h0 : ∀ j, M' 0 j = N j) (h1 : ∀ j, 0 ≤ j → j < 379 → M' 1 j = M 0 j) (hL : HistOK M V L) (hT : TextOK M V T) (e3 : ∀ j, M' 3 j = M 3 j) (e4 : ∀ j, M' 4 j = M 4 j) (e5 : V' 5 = V 5) (e6 : V' 6 = V 6) (e7 : V' 7 = V 7) : MS G o N ((M 0 :: L).take 4) T :=
  MS.rec hR (fun j _ _ => h0 j) h1 hL hT (funext e3) (funext e4) e5 e6 e7
theorem HistOK.b {M : Nat → Int → Int} {V : Nat → Int} {L : List (Int → Int)} (h : HistOK M V L) : (0 ≤ V 6 ∧ V 6 < 4) ∧ 0 ≤ V 5 ∧ V 5 ≤ 4 := ⟨h.2.2.1, by have := h.1; omega, by have := h.1; have := h.2.1; omega⟩
abbrev okBlk (p i : Int) : Prop := 0 ≤ p ∧ p ≤ 80 ∧ 0 ≤ i ∧ i ≤ 1
abbrev canBlk (N : Int → Int) (p i : Int) : Prop := if i = 1 then N (7 + p) = 0 ∧ N (88 + p) = 0 else N (7 + p) = 20
def blkN (N : Int → Int) (p i : Int) : Int → Int := uN (uN N (7 + p) (if i = 1 then 20 else 0)) (88 + p) (if i = 1 then 20 else 0)
/-- an operation's outcome: answer, and (when it is recorded) the new row -/
abbrev MOut (G : gH) (o : Nat) (N : Int → Int) (L : List (Int → Int)) (T : List Int) (z : Int) (N' : Option (Int → Int)) : Option Value → gH → Prop := fun r G' => r = some (.int (iI z)) ∧ MK G G' o ∧ match N' with
  | some N1 => MS G' o N1 ((N :: L).take 4) T
  | none => MS G' o N L T
section
variable {X : gX} {G : gH} {o : Nat} {N : Int → Int} {L : List (Int → Int)} {T : List Int} {M : Nat → Int → Int} {V : Nat → Int}
theorem m_block {p i : Int} (hM : MS G o N L T) (hp : i32 p) (hi : i32 i) : Tri X 3 Y_X4_block [.ref o, .int (iI p), .int (iI i)] 0 0 G (MOut G o N L T (if okBlk p i then (if canBlk N p i then blkC (blkN N p i) else -1000002) else -1000001) (if okBlk p i ∧ canBlk N p i then some (blkN N p i) else none)) := by
  obtain ⟨M, V, hR, rfl, hL, hT⟩ := hM.get
  have hb := hL.b
  refine Tri.of (by decide +kernel) (Nat.le_of_ble_eq_true rfl) ?_
  generalize hQ : MOut G o (M 0) L T (if okBlk p i then (if canBlk (M 0) p i then blkC (blkN (M 0) p i) else -1000002) else -1000001) (if okBlk p i ∧ canBlk (M 0) p i then some (blkN (M 0) p i) else none) = Q
  have hf : ¬ okBlk p i → Wp X Y_X4_block 3 Q 0 0 G 19 [some (.ref o), some (.int (iI p)), some (.int (iI i))] [] := by
    intro h
    rw [if_neg h, if_neg (fun q => h q.1)] at hQ
    subst hQ
    refine exS rfl 4 _ _ _ _ _ _ ?_
    simp (disch := omega) only [exB, Nat.reduceAdd, Nat.reduceSub, Nat.reduceMul, Nat.reduceLeDiff, Nat.reduceLT, Nat.reduceEqDiff, Nat.reduceBEq, Int.reduceAdd, Int.reduceSub, Int.reduceMul, Int.reduceNeg, Int.reduceToNat, Int.reduceLE, Int.reduceLT, Int.reduceEq, Int.reduceGE, Int.reduceGT, ↓reduceIte, reduceCtorEq, gm_pe, gm_pn, gc_put, gl_put, gs_put, cd_X4_block, iI_rt]
    exact ⟨rfl, MK.refl, hM⟩
  have hf2 : okBlk p i → ¬ canBlk (M 0) p i → Wp X Y_X4_block 3 Q 0 0 G 52 [some (.ref o), some (.int (iI p)), some (.int (iI i))] [] := by
    intro h h'
    rw [if_pos h, if_neg h', if_neg (fun q => h' q.2)] at hQ
    subst hQ
    refine exS rfl 4 _ _ _ _ _ _ ?_
    simp (disch := omega) only [exB, Nat.reduceAdd, Nat.reduceSub, Nat.reduceMul, Nat.reduceLeDiff, Nat.reduceLT, Nat.reduceEqDiff, Nat.reduceBEq, Int.reduceAdd, Int.reduceSub, Int.reduceMul, Int.reduceNeg, Int.reduceToNat, Int.reduceLE, Int.reduceLT, Int.reduceEq, Int.reduceGE, Int.reduceGT, ↓reduceIte, reduceCtorEq, gm_pe, gm_pn, gc_put, gl_put, gs_put, cd_X4_block, iI_rt]
    exact ⟨rfl, MK.refl, hM⟩
  have hg : okBlk p i → canBlk (M 0) p i → gCall X 3 Y_X4_copy [.ref o] 0 0 G (fun k n r G => Wp X Y_X4_block 3 Q k n G 59 [some (.ref o), some (.int (iI p)), some (.int (iI i))] (r.toList ++ [])) := by
    intro h h'
    rw [if_pos h, if_pos h', if_pos ⟨h, h'⟩] at hQ
    unfold okBlk at h
    refine gCall.of (m_copy hR) (by decide) (by first | omega | decide) (by first | omega | decide) ?_
    rintro r G1 ⟨rfl, hk1, hR1⟩
    generalize hw : (if i = 1 then (20 : Int) else 0) = w
    have hwb : i32 w := by rw [← hw]; split <;> decide
    have hR2 := (hR1.putA 0 (z := 7 + p) (v := w) (by decide) (by omega) hwb).putA 0 (z := 88 + p) (v := w) (by decide) (by omega) hwb
    change MR (gput (gput G1 (o + 1) _ _) (o + 1) _ _) o _ _ at hR2
    have hk2 := (hk1.put (a := o + 1) (j := (7 + p).toNat) (v := .int (iI w)) (by omega)).put (a := o + 1) (j := (88 + p).toNat) (v := .int (iI w)) (by omega)
    have e0 : uM (uM (fun f j => if f = 1 ∧ 0 ≤ j ∧ j < 379 then M 0 j else M f j) 0 (7 + p) w) 0 (88 + p) w 0 = blkN (M 0) p i := by
      funext j
      simp [uM, blkN, uN, hw]
    have fin : Wp X Y_X4_block 3 Q 0 0 (gput (gput G1 (o + 1) (7 + p).toNat (.int (iI w))) (o + 1) (88 + p).toNat (.int (iI w))) 99 [some (.ref o), some (.int (iI p)), some (.int (iI i))] [] := by
      generalize gput (gput G1 (o + 1) (7 + p).toNat (.int (iI w))) (o + 1) (88 + p).toNat (.int (iI w)) = G2 at hR2 hk2 ⊢
      refine exS rfl 6 _ _ _ _ _ _ ?_
      simp (disch := omega) only [exB, Nat.reduceAdd, Nat.reduceSub, Nat.reduceMul, Nat.reduceLeDiff, Nat.reduceLT, Nat.reduceEqDiff, Nat.reduceBEq, Int.reduceAdd, Int.reduceSub, Int.reduceMul, Int.reduceNeg, Int.reduceToNat, Int.reduceLE, Int.reduceLT, Int.reduceEq, Int.reduceGE, Int.reduceGT, ↓reduceIte, reduceCtorEq, gm_pe, gm_pn, gc_put, gl_put, gs_put, cd_X4_block, hR2.f]
      refine gCall.of (m_blockedMany hR2) (by decide) (by first | omega | decide) (by first | omega | decide) ?_
      rintro r G3 ⟨rfl, rfl⟩
      refine exS rfl 2 _ _ _ _ _ _ ?_
      simp (disch := omega) only [exB, Nat.reduceAdd, Nat.reduceSub, Nat.reduceMul, Nat.reduceLeDiff, Nat.reduceLT, Nat.reduceEqDiff, Nat.reduceBEq, Int.reduceAdd, Int.reduceSub, Int.reduceMul, Int.reduceNeg, Int.reduceToNat, Int.reduceLE, Int.reduceLT, Int.reduceEq, Int.reduceGE, Int.reduceGT, ↓reduceIte, reduceCtorEq, gm_pe, gm_pn, gc_put, gl_put, gs_put, cd_X4_block, hR2.f]
      rw [e0]
      have hbb := blkC_b (blkN (M 0) p i)
      refine gCall.of (m_recorded hR2 (a := blkC (blkN (M 0) p i)) hbb.1 (by omega) hb.1 hb.2) (by decide) (by first | omega | decide) (by first | omega | decide) ?_
      rintro r G4 ⟨rfl, hk4, hR4⟩
      refine exS rfl 2 _ _ _ _ _ _ ?_
      simp (disch := omega) only [exB, Nat.reduceAdd, Nat.reduceSub, Nat.reduceMul, Nat.reduceLeDiff, Nat.reduceLT, Nat.reduceEqDiff, Nat.reduceBEq, Int.reduceAdd, Int.reduceSub, Int.reduceMul, Int.reduceNeg, Int.reduceToNat, Int.reduceLE, Int.reduceLT, Int.reduceEq, Int.reduceGE, Int.reduceGT, ↓reduceIte, reduceCtorEq, gm_pe, gm_pn, gc_put, gl_put, gs_put, cd_X4_block]
      subst hQ
      refine ⟨rfl, hk2.trans hk4, MS.recN hR4 (fun j => by rw [e0]) ?_ hL hT ?_ ?_ rfl rfl rfl⟩
      · intro j j0 j1
        simp only [uM]
        grind
      · intro j; simp [uM]
      · intro j; simp [uM]
    by_cases h1 : i = 1
    · have hw1 : w = 20 := by rw [← hw, if_pos h1]
      subst hw1
      refine excS rfl 99 40 _ _ _ _ _ _ ?_
      simp (disch := omega) only [exB, Nat.reduceAdd, Nat.reduceSub, Nat.reduceMul, Nat.reduceLeDiff, Nat.reduceLT, Nat.reduceEqDiff, Nat.reduceBEq, Int.reduceAdd, Int.reduceSub, Int.reduceMul, Int.reduceNeg, Int.reduceToNat, Int.reduceLE, Int.reduceLT, Int.reduceEq, Int.reduceGE, Int.reduceGT, ↓reduceIte, reduceCtorEq, gm_pe, gm_pn, gc_put, gl_put, gs_put, cd_X4_block, hR1.f, iI_rt, h1]
      rw [h1] at fin
      refine ⟨by omega, by omega, by omega, by omega, fin⟩
    · have hw1 : w = 0 := by rw [← hw, if_neg h1]
      subst hw1
      refine excS rfl 99 40 _ _ _ _ _ _ ?_
      simp (disch := omega) only [exB, Nat.reduceAdd, Nat.reduceSub, Nat.reduceMul, Nat.reduceLeDiff, Nat.reduceLT, Nat.reduceEqDiff, Nat.reduceBEq, Int.reduceAdd, Int.reduceSub, Int.reduceMul, Int.reduceNeg, Int.reduceToNat, Int.reduceLE, Int.reduceLT, Int.reduceEq, Int.reduceGE, Int.reduceGT, ↓reduceIte, reduceCtorEq, gm_pe, gm_pn, gc_put, gl_put, gs_put, cd_X4_block, hR1.f, iI_rt]
      refine ⟨fun _ => ⟨by omega, by omega, fun _ => ⟨by omega, by omega, fin⟩, fun q => absurd h1 q⟩, fun q => absurd h1 q⟩
  refine exS rfl 6 _ _ _ _ _ _ ?_
  simp (disch := omega) only [exB, Nat.reduceAdd, Nat.reduceSub, Nat.reduceMul, Nat.reduceLeDiff, Nat.reduceLT, Nat.reduceEqDiff, Nat.reduceBEq, Int.reduceAdd, Int.reduceSub, Int.reduceMul, Int.reduceNeg, Int.reduceToNat, Int.reduceLE, Int.reduceLT, Int.reduceEq, Int.reduceGE, Int.reduceGT, ↓reduceIte, reduceCtorEq, gm_pe, gm_pn, gc_put, gl_put, gs_put, cd_X4_block]
  refine gCall.of (m_in hp (by decide) (by decide)) (by decide) (by first | omega | decide) (by first | omega | decide) ?_
  rintro r G' ⟨rfl, rfl⟩
  by_cases h1 : 0 ≤ p ∧ p ≤ 80
  · rw [if_pos h1]
    refine exS rfl 6 _ _ _ _ _ _ ?_
    simp (disch := omega) only [exB, Nat.reduceAdd, Nat.reduceSub, Nat.reduceMul, Nat.reduceLeDiff, Nat.reduceLT, Nat.reduceEqDiff, Nat.reduceBEq, Int.reduceAdd, Int.reduceSub, Int.reduceMul, Int.reduceNeg, Int.reduceToNat, Int.reduceLE, Int.reduceLT, Int.reduceEq, Int.reduceGE, Int.reduceGT, ↓reduceIte, reduceCtorEq, gm_pe, gm_pn, gc_put, gl_put, gs_put, cd_X4_block, iI_rt]
    refine gCall.of (m_in hi (by decide) (by decide)) (by decide) (by first | omega | decide) (by first | omega | decide) ?_
    rintro r G' ⟨rfl, rfl⟩
    by_cases h2 : 0 ≤ i ∧ i ≤ 1
    · rw [if_pos h2]
      have hok : okBlk p i := ⟨h1.1, h1.2, h2.1, h2.2⟩
      have b1 := hR.bA (z := 7 + p) (by omega) (by omega)
      refine excS rfl 52 16 _ _ _ _ _ _ ?_
      simp (disch := omega) only [exB, Nat.reduceAdd, Nat.reduceSub, Nat.reduceMul, Nat.reduceLeDiff, Nat.reduceLT, Nat.reduceEqDiff, Nat.reduceBEq, Int.reduceAdd, Int.reduceSub, Int.reduceMul, Int.reduceNeg, Int.reduceToNat, Int.reduceLE, Int.reduceLT, Int.reduceEq, Int.reduceGE, Int.reduceGT, ↓reduceIte, reduceCtorEq, gm_pe, gm_pn, gc_put, gl_put, gs_put, cd_X4_block, hR.f, iI_rt]
      refine ⟨fun q => ⟨by omega, by omega, fun q2 => hg hok (by unfold canBlk; rw [if_neg q]; exact q2), fun q2 => hf2 hok (by unfold canBlk; rw [if_neg q]; exact q2)⟩, fun q => ?_⟩
      have q := Classical.not_not.mp q
      refine gCall.of (m_isFree hR (w := p) (by omega)) (by decide) (by first | omega | decide) (by first | omega | decide) ?_
      rintro r G' ⟨rfl, rfl⟩
      by_cases h3 : M 0 (7 + p) = 0 ∧ M 0 (88 + p) = 0
      · rw [if_pos h3]
        refine exS rfl 3 _ _ _ _ _ _ ?_
        simp (disch := omega) only [exB, Nat.reduceAdd, Nat.reduceSub, Nat.reduceMul, Nat.reduceLeDiff, Nat.reduceLT, Nat.reduceEqDiff, Nat.reduceBEq, Int.reduceAdd, Int.reduceSub, Int.reduceMul, Int.reduceNeg, Int.reduceToNat, Int.reduceLE, Int.reduceLT, Int.reduceEq, Int.reduceGE, Int.reduceGT, ↓reduceIte, reduceCtorEq, gm_pe, gm_pn, gc_put, gl_put, gs_put, cd_X4_block, hR.f, iI_rt]
        exact hg hok (by unfold canBlk; rw [if_pos q]; exact h3)
      · rw [if_neg h3]
        refine excS rfl 52 3 _ _ _ _ _ _ ?_
        simp (disch := omega) only [exB, Nat.reduceAdd, Nat.reduceSub, Nat.reduceMul, Nat.reduceLeDiff, Nat.reduceLT, Nat.reduceEqDiff, Nat.reduceBEq, Int.reduceAdd, Int.reduceSub, Int.reduceMul, Int.reduceNeg, Int.reduceToNat, Int.reduceLE, Int.reduceLT, Int.reduceEq, Int.reduceGE, Int.reduceGT, ↓reduceIte, reduceCtorEq, gm_pe, gm_pn, gc_put, gl_put, gs_put, cd_X4_block, hR.f, iI_rt]
        exact hf2 hok (by unfold canBlk; rw [if_pos q]; exact h3)
    · rw [if_neg h2]
      refine exS rfl 1 _ _ _ _ _ _ ?_
      simp (disch := omega) only [exB, Nat.reduceAdd, Nat.reduceSub, Nat.reduceMul, Nat.reduceLeDiff, Nat.reduceLT, Nat.reduceEqDiff, Nat.reduceBEq, Int.reduceAdd, Int.reduceSub, Int.reduceMul, Int.reduceNeg, Int.reduceToNat, Int.reduceLE, Int.reduceLT, Int.reduceEq, Int.reduceGE, Int.reduceGT, ↓reduceIte, reduceCtorEq, gm_pe, gm_pn, gc_put, gl_put, gs_put, cd_X4_block, iI_rt]
      exact hf (fun q => h2 ⟨q.2.2.1, q.2.2.2⟩)
  · rw [if_neg h1]
    refine excS rfl 19 4 _ _ _ _ _ _ ?_
    simp (disch := omega) only [exB, Nat.reduceAdd, Nat.reduceSub, Nat.reduceMul, Nat.reduceLeDiff, Nat.reduceLT, Nat.reduceEqDiff, Nat.reduceBEq, Int.reduceAdd, Int.reduceSub, Int.reduceMul, Int.reduceNeg, Int.reduceToNat, Int.reduceLE, Int.reduceLT, Int.reduceEq, Int.reduceGE, Int.reduceGT, ↓reduceIte, reduceCtorEq, gm_pe, gm_pn, gc_put, gl_put, gs_put, cd_X4_block, iI_rt]
    exact hf (fun q => h1 ⟨q.1, q.2.1⟩)
end
