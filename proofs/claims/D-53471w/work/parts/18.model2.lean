/-! THE MODEL 2: its picture with history and text; settings, places, nets -/
set_option maxRecDepth 100000
/-- the k-th state back -/
def hRow (m : Int → Int) (at0 : Int) (k : Nat) : Int → Int := fun j => m (379 * ((at0 + 3 - k) % 4) + j)
def HistOK (M : Nat → Int → Int) (V : Nat → Int) (L : List (Int → Int)) : Prop := V 5 = L.length ∧ L.length ≤ 4 ∧ (0 ≤ V 6 ∧ V 6 < 4) ∧ ∀ (k : Nat) (r : Int → Int), L[k]? = some r → ∀ j, 0 ≤ j → j < 379 → r j = hRow (M 3) (V 6) k j
def TextOK (M : Nat → Int → Int) (V : Nat → Int) (T : List Int) : Prop := V 7 = T.length ∧ T.length ≤ 60 ∧ ∀ (k : Nat) (c : Int), T[k]? = some c → M 4 k = c
def RowEq (a b : Int → Int) : Prop := ∀ j, 0 ≤ j → j < 379 → a j = b j
/-- the model stands for row N, history L, text T -/
def MS (G : gH) (o : Nat) (N : Int → Int) (L : List (Int → Int)) (T : List Int) : Prop := ∃ M V, MR G o M V ∧ RowEq (M 0) N ∧ HistOK M V L ∧ TextOK M V T
def uN (N : Int → Int) (z v : Int) : Int → Int := fun j => if j = z then v else N j
theorem HistOK.rec {M M' : Nat → Int → Int} {V V' : Nat → Int} {L : List (Int → Int)} {N0 : Int → Int} (h : HistOK M V L) (h1 : RowEq (M 1) N0) (e3 : ∀ j, M' 3 j = recM M (V 6) 3 j) (e5 : V' 5 = recV V 5) (e6 : V' 6 = recV V 6) : HistOK M' V' ((N0 :: L).take 4) := by
  obtain ⟨a, b, c, d⟩ := h
  have r5 : recV V 5 = if V 5 < 4 then V 5 + 1 else 4 := by simp [recV, uV]
  have r6 : recV V 6 = (V 6 + 1) % 4 := by simp [recV, uV]
  refine ⟨?_, by simp; omega, by rw [e6, r6]; omega, fun k r hk j j0 j1 => ?_⟩
  · rw [e5, r5, List.length_take, List.length_cons]
    by_cases hl : V 5 < 4
    · rw [if_pos hl]; omega
    · rw [if_neg hl]; omega
  · rw [List.getElem?_take] at hk
    by_cases hk4 : k < 4
    · rw [if_pos hk4] at hk
      unfold hRow
      rw [e3, e6, r6]
      unfold recM
      cases k with
      | zero =>
        simp at hk
        subst hk
        rw [if_pos (by omega)]
        rw [← h1 j j0 j1]
        congr 1
        omega
      | succ k =>
        rw [List.getElem?_cons_succ] at hk
        have := d k r hk j j0 j1
        rw [this]
        unfold hRow
        rw [if_neg (by omega)]
        congr 2
        omega
    · rw [if_neg hk4] at hk
      cases hk
theorem HistOK.undo {M M' : Nat → Int → Int} {V V' : Nat → Int} {L : List (Int → Int)} {h : Int → Int} (hh : HistOK M V (h :: L)) (e3 : M' 3 = M 3) (e5 : V' 5 = V 5 - 1) (e6 : V' 6 = lastA V) : HistOK M' V' L := by
  obtain ⟨a, b, c, d⟩ := hh
  have r6 : lastA V = (V 6 + 3) % 4 := rfl
  simp only [List.length_cons] at a b
  refine ⟨by rw [e5]; omega, by omega, by rw [e6, r6]; omega, fun k r hk j j0 j1 => ?_⟩
  have hk4 : k < L.length := (List.getElem?_eq_some_iff.mp hk).1
  have := d (k + 1) r (by rw [List.getElem?_cons_succ]; exact hk) j j0 j1
  rw [this]
  unfold hRow
  rw [e3, e6, r6]
  congr 2
  omega
/-- what a recorded step leaves -/
theorem MS.rec {G : gH} {o : Nat} {M M' : Nat → Int → Int} {V V' : Nat → Int} {N0 N : Int → Int} {L : List (Int → Int)} {T : List Int} (hR : MR G o (recM M' (V' 6)) (recV V')) (h0 : RowEq (M' 0) N) (h1 : RowEq (M' 1) N0) (hL : HistOK M V L) (hT : TextOK M V T) (e3 : M' 3 = M 3) (e4 : M' 4 = M 4) (e5 : V' 5 = V 5) (e6 : V' 6 = V 6) (e7 : V' 7 = V 7) : MS G o N ((N0 :: L).take 4) T := by
  have hL' : HistOK M' V' L := by
    obtain ⟨a, b, c, d⟩ := hL
    exact ⟨e5.trans a, b, by rw [e6]; exact c, by rw [e3, e6]; exact d⟩
  refine ⟨_, _, hR, ?_, hL'.rec h1 (fun j => rfl) rfl rfl, ?_⟩
  · intro j j0 j1
    rw [← h0 j j0 j1]
    simp [recM]
  · obtain ⟨a, b, c⟩ := hT
    refine ⟨?_, b, fun k c0 hk => ?_⟩
    · rw [← a, ← e7]; simp [recV, uV]
    · rw [← c k c0 hk, ← e4]; simp [recM]
theorem MS.same {G : gH} {o : Nat} {M M' : Nat → Int → Int} {V V' : Nat → Int} {N : Int → Int} {L : List (Int → Int)} {T : List Int} (hR : MR G o M' V') (h0 : RowEq (M' 0) N) (hL : HistOK M V L) (hT : TextOK M V T) (e3 : M' 3 = M 3) (e4 : M' 4 = M 4) (e5 : V' 5 = V 5) (e6 : V' 6 = V 6) (e7 : V' 7 = V 7) : MS G o N L T := by
  refine ⟨_, _, hR, h0, ?_, ?_⟩
  · obtain ⟨a, b, c, d⟩ := hL
    exact ⟨e5.trans a, b, by rw [e6]; exact c, by rw [e3, e6]; exact d⟩
  · obtain ⟨a, b, c⟩ := hT
    exact ⟨e7.trans a, b, by rw [e4]; exact c⟩
/-- the row after a change by copy -/
def cpM (M : Nat → Int → Int) : Nat → Int → Int := fun f j => if f = 1 ∧ 0 ≤ j ∧ j < 379 then M 0 j else M f j
/-- an answer, and what the model then stands for -/
abbrev MPost (G : gH) (o : Nat) (z : Int) (N : Int → Int) (L : List (Int → Int)) (T : List Int) : Option Value → gH → Prop := fun r G' => r = some (.int (iI z)) ∧ MK G G' o ∧ MS G' o N L T
def okSet (w v : Int) : Prop := 0 ≤ w ∧ w ≤ 3 ∧ (if w = 0 ∨ w = 3 then 1 else 0) ≤ v ∧ v ≤ (if w = 0 ∨ w = 3 then 20 else 50)
section
variable {X : gX} {G : gH} {o : Nat} {N : Int → Int} {L : List (Int → Int)} {T : List Int}
theorem m_setF {w v : Int} (hM : MS G o N L T) (hw : i32 w) (hv : i32 v) (h : ¬ okSet w v) : Tri X 2 Y_X4_set [.ref o, .int (iI w), .int (iI v)] 0 0 G (MPost G o (-1000001) N L T) := by
  refine Tri.of (by decide +kernel) (Nat.le_of_ble_eq_true rfl) ?_
  refine exS rfl 6 _ _ _ _ _ _ ?_
  simp (disch := omega) only [exB, Nat.reduceAdd, Nat.reduceSub, Nat.reduceMul, Nat.reduceLeDiff, Nat.reduceLT, Nat.reduceEqDiff, Nat.reduceBEq, Int.reduceAdd, Int.reduceSub, Int.reduceMul, Int.reduceNeg, Int.reduceToNat, Int.reduceLE, Int.reduceLT, Int.reduceEq, Int.reduceGE, Int.reduceGT, ↓reduceIte, reduceCtorEq, gm_pe, gm_pn, gc_put, gl_put, gs_put, cd_X4_set]
  refine gCall.of (m_in hw (by decide) (by decide)) (by decide) (by first | omega | decide) (by first | omega | decide) ?_
  rintro r G' ⟨rfl, rfl⟩
  by_cases h1 : 0 ≤ w ∧ w ≤ 3
  · rw [if_pos h1]
    refine exS rfl 6 _ _ _ _ _ _ ?_
    simp (disch := omega) only [exB, Nat.reduceAdd, Nat.reduceSub, Nat.reduceMul, Nat.reduceLeDiff, Nat.reduceLT, Nat.reduceEqDiff, Nat.reduceBEq, Int.reduceAdd, Int.reduceSub, Int.reduceMul, Int.reduceNeg, Int.reduceToNat, Int.reduceLE, Int.reduceLT, Int.reduceEq, Int.reduceGE, Int.reduceGT, ↓reduceIte, reduceCtorEq, gm_pe, gm_pn, gc_put, gl_put, gs_put, cd_X4_set, iI_rt]
    refine gCall.of (m_least hw) (by decide) (by first | omega | decide) (by first | omega | decide) ?_
    rintro r G' ⟨rfl, rfl⟩
    refine exS rfl 6 _ _ _ _ _ _ ?_
    simp (disch := omega) only [exB, Nat.reduceAdd, Nat.reduceSub, Nat.reduceMul, Nat.reduceLeDiff, Nat.reduceLT, Nat.reduceEqDiff, Nat.reduceBEq, Int.reduceAdd, Int.reduceSub, Int.reduceMul, Int.reduceNeg, Int.reduceToNat, Int.reduceLE, Int.reduceLT, Int.reduceEq, Int.reduceGE, Int.reduceGT, ↓reduceIte, reduceCtorEq, gm_pe, gm_pn, gc_put, gl_put, gs_put, cd_X4_set, iI_rt]
    refine gCall.of (m_most hw) (by decide) (by first | omega | decide) (by first | omega | decide) ?_
    rintro r G' ⟨rfl, rfl⟩
    refine exS rfl 1 _ _ _ _ _ _ ?_
    simp (disch := omega) only [exB, Nat.reduceAdd, Nat.reduceSub, Nat.reduceMul, Nat.reduceLeDiff, Nat.reduceLT, Nat.reduceEqDiff, Nat.reduceBEq, Int.reduceAdd, Int.reduceSub, Int.reduceMul, Int.reduceNeg, Int.reduceToNat, Int.reduceLE, Int.reduceLT, Int.reduceEq, Int.reduceGE, Int.reduceGT, ↓reduceIte, reduceCtorEq, gm_pe, gm_pn, gc_put, gl_put, gs_put, cd_X4_set, iI_rt]
    refine gCall.of (m_in hv (by split <;> decide) (by split <;> decide)) (by decide) (by first | omega | decide) (by first | omega | decide) ?_
    rintro r G' ⟨rfl, rfl⟩
    rw [if_neg (fun q => h ⟨h1.1, h1.2, q.1, q.2⟩)]
    refine exS rfl 6 _ _ _ _ _ _ ?_
    simp (disch := omega) only [exB, Nat.reduceAdd, Nat.reduceSub, Nat.reduceMul, Nat.reduceLeDiff, Nat.reduceLT, Nat.reduceEqDiff, Nat.reduceBEq, Int.reduceAdd, Int.reduceSub, Int.reduceMul, Int.reduceNeg, Int.reduceToNat, Int.reduceLE, Int.reduceLT, Int.reduceEq, Int.reduceGE, Int.reduceGT, ↓reduceIte, reduceCtorEq, gm_pe, gm_pn, gc_put, gl_put, gs_put, cd_X4_set, iI_rt]
    exact ⟨rfl, MK.refl, hM⟩
  · rw [if_neg h1]
    refine exS rfl 6 _ _ _ _ _ _ ?_
    simp (disch := omega) only [exB, Nat.reduceAdd, Nat.reduceSub, Nat.reduceMul, Nat.reduceLeDiff, Nat.reduceLT, Nat.reduceEqDiff, Nat.reduceBEq, Int.reduceAdd, Int.reduceSub, Int.reduceMul, Int.reduceNeg, Int.reduceToNat, Int.reduceLE, Int.reduceLT, Int.reduceEq, Int.reduceGE, Int.reduceGT, ↓reduceIte, reduceCtorEq, gm_pe, gm_pn, gc_put, gl_put, gs_put, cd_X4_set, iI_rt]
    exact ⟨rfl, MK.refl, hM⟩
theorem m_set {w v : Int} (hM : MS G o N L T) (h : okSet w v) (hN : 0 ≤ N w) : Tri X 2 Y_X4_set [.ref o, .int (iI w), .int (iI v)] 0 0 G (MPost G o (N w) (uN N w v) ((N :: L).take 4) T) := by
  have hh := h
  obtain ⟨h1, h2, h3, h4⟩ := h
  have hw : i32 w := by omega
  have hv : i32 v := by split at h3 <;> split at h4 <;> omega
  obtain ⟨M, V, hR, hN0, hL, hT⟩ := hM
  refine Tri.of (by decide +kernel) (Nat.le_of_ble_eq_true rfl) ?_
  refine exS rfl 6 _ _ _ _ _ _ ?_
  simp (disch := omega) only [exB, Nat.reduceAdd, Nat.reduceSub, Nat.reduceMul, Nat.reduceLeDiff, Nat.reduceLT, Nat.reduceEqDiff, Nat.reduceBEq, Int.reduceAdd, Int.reduceSub, Int.reduceMul, Int.reduceNeg, Int.reduceToNat, Int.reduceLE, Int.reduceLT, Int.reduceEq, Int.reduceGE, Int.reduceGT, ↓reduceIte, reduceCtorEq, gm_pe, gm_pn, gc_put, gl_put, gs_put, cd_X4_set]
  refine gCall.of (m_in hw (by decide) (by decide)) (by decide) (by first | omega | decide) (by first | omega | decide) ?_
  rintro r G' ⟨rfl, rfl⟩
  rw [if_pos ⟨h1, h2⟩]
  refine exS rfl 6 _ _ _ _ _ _ ?_
  simp (disch := omega) only [exB, Nat.reduceAdd, Nat.reduceSub, Nat.reduceMul, Nat.reduceLeDiff, Nat.reduceLT, Nat.reduceEqDiff, Nat.reduceBEq, Int.reduceAdd, Int.reduceSub, Int.reduceMul, Int.reduceNeg, Int.reduceToNat, Int.reduceLE, Int.reduceLT, Int.reduceEq, Int.reduceGE, Int.reduceGT, ↓reduceIte, reduceCtorEq, gm_pe, gm_pn, gc_put, gl_put, gs_put, cd_X4_set, iI_rt]
  refine gCall.of (m_least hw) (by decide) (by first | omega | decide) (by first | omega | decide) ?_
  rintro r G' ⟨rfl, rfl⟩
  refine exS rfl 6 _ _ _ _ _ _ ?_
  simp (disch := omega) only [exB, Nat.reduceAdd, Nat.reduceSub, Nat.reduceMul, Nat.reduceLeDiff, Nat.reduceLT, Nat.reduceEqDiff, Nat.reduceBEq, Int.reduceAdd, Int.reduceSub, Int.reduceMul, Int.reduceNeg, Int.reduceToNat, Int.reduceLE, Int.reduceLT, Int.reduceEq, Int.reduceGE, Int.reduceGT, ↓reduceIte, reduceCtorEq, gm_pe, gm_pn, gc_put, gl_put, gs_put, cd_X4_set, iI_rt]
  refine gCall.of (m_most hw) (by decide) (by first | omega | decide) (by first | omega | decide) ?_
  rintro r G' ⟨rfl, rfl⟩
  refine exS rfl 1 _ _ _ _ _ _ ?_
  simp (disch := omega) only [exB, Nat.reduceAdd, Nat.reduceSub, Nat.reduceMul, Nat.reduceLeDiff, Nat.reduceLT, Nat.reduceEqDiff, Nat.reduceBEq, Int.reduceAdd, Int.reduceSub, Int.reduceMul, Int.reduceNeg, Int.reduceToNat, Int.reduceLE, Int.reduceLT, Int.reduceEq, Int.reduceGE, Int.reduceGT, ↓reduceIte, reduceCtorEq, gm_pe, gm_pn, gc_put, gl_put, gs_put, cd_X4_set, iI_rt]
  refine gCall.of (m_in hv (by split <;> decide) (by split <;> decide)) (by decide) (by first | omega | decide) (by first | omega | decide) ?_
  rintro r G' ⟨rfl, rfl⟩
  rw [if_pos ⟨h3, h4⟩]
  refine exS rfl 6 _ _ _ _ _ _ ?_
  simp (disch := omega) only [exB, Nat.reduceAdd, Nat.reduceSub, Nat.reduceMul, Nat.reduceLeDiff, Nat.reduceLT, Nat.reduceEqDiff, Nat.reduceBEq, Int.reduceAdd, Int.reduceSub, Int.reduceMul, Int.reduceNeg, Int.reduceToNat, Int.reduceLE, Int.reduceLT, Int.reduceEq, Int.reduceGE, Int.reduceGT, ↓reduceIte, reduceCtorEq, gm_pe, gm_pn, gc_put, gl_put, gs_put, cd_X4_set, hR.f, iI_rt]
  refine gCall.of (m_copy hR) (by decide) (by first | omega | decide) (by first | omega | decide) ?_
  rintro r G1 ⟨rfl, hk1, hR1⟩
  have hb := (hR.bA (z := w) (by omega) (by omega))
  refine exS rfl 40 _ _ _ _ _ _ ?_
  simp (disch := omega) only [exB, Nat.reduceAdd, Nat.reduceSub, Nat.reduceMul, Nat.reduceLeDiff, Nat.reduceLT, Nat.reduceEqDiff, Nat.reduceBEq, Int.reduceAdd, Int.reduceSub, Int.reduceMul, Int.reduceNeg, Int.reduceToNat, Int.reduceLE, Int.reduceLT, Int.reduceEq, Int.reduceGE, Int.reduceGT, ↓reduceIte, reduceCtorEq, gm_pe, gm_pn, gc_put, gl_put, gs_put, cd_X4_set, hR1.f, iI_rt]
  refine ⟨by omega, by omega, by omega, by omega, ?_⟩
  have hR2 := hR1.putA 0 (z := w) (v := v) (by decide) (by omega) hv
  have hk2 := hk1.put (a := o + 1) (j := w.toNat) (v := .int (iI v)) (by omega)
  have e : M 0 w = N w := hN0 w (by omega) (by omega)
  refine gCall.of (m_recorded hR2 (by rw [e]; exact hN) hb hL.2.2.1 (by have := hL.1; have := hL.2.1; omega)) (by decide) (by decide) (by decide) ?_
  rintro r G3 ⟨rfl, hk3, hR3⟩
  refine exS rfl 2 _ _ _ _ _ _ ?_
  simp (disch := omega) only [exB, Nat.reduceAdd, Nat.reduceSub, Nat.reduceMul, Nat.reduceLeDiff, Nat.reduceLT, Nat.reduceEqDiff, Nat.reduceBEq, Int.reduceAdd, Int.reduceSub, Int.reduceMul, Int.reduceNeg, Int.reduceToNat, Int.reduceLE, Int.reduceLT, Int.reduceEq, Int.reduceGE, Int.reduceGT, ↓reduceIte, reduceCtorEq, gm_pe, gm_pn, gc_put, gl_put, gs_put, cd_X4_set]
  refine ⟨by rw [e], hk2.trans hk3, ?_⟩
  refine MS.rec (M := M) (V := V) hR3 ?_ ?_ hL hT ?_ ?_ rfl rfl rfl
  · intro j j0 j1
    simp only [uM, uN]
    grind [RowEq]
  · intro j j0 j1
    simp only [uM]
    grind [RowEq]
  · funext j; simp [uM]
  · funext j; simp [uM]
end
