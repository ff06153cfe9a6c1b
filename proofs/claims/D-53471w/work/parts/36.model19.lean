/-! THE MODEL 19: what is told of claims, counts; texts typed -/
set_option maxRecDepth 100000
set_option maxHeartbeats 4000000
def claZ (N : Int → Int) (c w : Int) : Int := if isC N c ∧ 0 ≤ w ∧ w ≤ 7 then (if w < 5 then clA N c w else if w = 5 then lossN N c else if w = 6 then clA N c 5 else N 4 - clA N c 6) else -1000001
def dokZ (N : Int → Int) (i : Int) : Int := if i < 0 then -1000001 else heardN N i
abbrev wrgB (N : Int → Int) (c : Int) : Prop := ¬ jnd N (clA N c 0) ∧ clA N c 4 < lossN N c
/-- the set of wronged nets, as an int -/
def wrgS (N : Int → Int) : Nat → Int32
  | 0 => iI 0
  | k + 1 => wrgS N k ||| (if wrgB N k then iI 1 <<< iI (clA N k 0) else iI 0)
def ovN (N : Int → Int) (w : Int) : Int := sumI (fun n => N (169 + 9 * n + w)) (N 5).toNat
def celN (N : Int → Int) (a b : Int) : Int := sumI (fun c => if a ≤ N (7 + c) ∧ N (7 + c) ≤ b then 1 else 0) 162
def crsN (N : Int → Int) : Int := sumI (fun p => if (1 ≤ N (7 + p) ∧ N (7 + p) ≤ 6) ∧ (1 ≤ N (88 + p) ∧ N (88 + p) ≤ 6) ∧ N (7 + p) ≠ N (88 + p) then 1 else 0) 81
def cntZ (N : Int → Int) (h t w : Int) : Int := if w = 0 then N 5 else if w = 1 then ovN N 5 else if w = 2 then blkC N else if w = 3 then celN N 0 0 else if w = 4 then N 6 else if w = 5 then appC N else if w = 6 then N 4 else if w = 7 then ovN N 4 else if w = 8 then celN N 1 6 else if w = 9 then crsN N else if w = 10 then h else if w = 11 then t else if w = 20 then N 0 else if w = 21 then N 1 else if w = 22 then N 2 else if w = 23 then N 3 else -1000001
section
variable {X : gX} {G : gH} {o : Nat} {N : Int → Int} {L : List (Int → Int)} {T : List Int} {M : Nat → Int → Int} {V : Nat → Int} {l : List Int} {K : Int}
theorem m_claimOf {c w : Int} (hM : MS G o N L T) (hB : RowB K N) (hc : i32 c) (hw : i32 w) : Tri X 3 Y_X4_claimOf [.ref o, .int (iI c), .int (iI w)] 0 0 G (MOut G o N L T (claZ N c w) none) := by
  obtain ⟨M, V, hR, rfl, hL, hT⟩ := hM.get
  have h6 := hB.2.1.2
  refine Tri.of (by decide +kernel) (Nat.le_of_ble_eq_true rfl) ?_
  generalize hQ : MOut G o (M 0) L T (claZ (M 0) c w) none = Q
  have fin : ∀ z, claZ (M 0) c w = z → Q (some (.int (iI z))) G := by
    intro z hz; subst hQ; exact ⟨by rw [hz], MK.refl, hM⟩
  refine exS rfl 6 _ _ _ _ _ _ ?_
  simp (disch := omega) only [exB, Nat.reduceAdd, Nat.reduceSub, Nat.reduceMul, Nat.reduceLeDiff, Nat.reduceLT, Nat.reduceEqDiff, Nat.reduceBEq, Int.reduceAdd, Int.reduceSub, Int.reduceMul, Int.reduceNeg, Int.reduceToNat, Int.reduceLE, Int.reduceLT, Int.reduceEq, Int.reduceGE, Int.reduceGT, ↓reduceIte, reduceCtorEq, gm_pe, gm_pn, gc_put, gl_put, gs_put, cd_X4_claimOf, hR.f]
  refine gCall.of (m_isClaim hR hc (by omega)) (by decide) (by first | omega | decide) (by first | omega | decide) ?_
  rintro r G' ⟨rfl, rfl⟩
  by_cases h : isC (M 0) c
  case neg =>
    rw [if_neg h]
    refine exS rfl 6 _ _ _ _ _ _ ?_
    simp (disch := omega) only [exB, Nat.reduceAdd, Nat.reduceSub, Nat.reduceMul, Nat.reduceLeDiff, Nat.reduceLT, Nat.reduceEqDiff, Nat.reduceBEq, Int.reduceAdd, Int.reduceSub, Int.reduceMul, Int.reduceNeg, Int.reduceToNat, Int.reduceLE, Int.reduceLT, Int.reduceEq, Int.reduceGE, Int.reduceGT, ↓reduceIte, reduceCtorEq, gm_pe, gm_pn, gc_put, gl_put, gs_put, cd_X4_claimOf, hR.f, iI_rt]
    exact fin _ (by unfold claZ; rw [if_neg (fun q => h q.1)])
  rw [if_pos h]
  refine exS rfl 6 _ _ _ _ _ _ ?_
  simp (disch := omega) only [exB, Nat.reduceAdd, Nat.reduceSub, Nat.reduceMul, Nat.reduceLeDiff, Nat.reduceLT, Nat.reduceEqDiff, Nat.reduceBEq, Int.reduceAdd, Int.reduceSub, Int.reduceMul, Int.reduceNeg, Int.reduceToNat, Int.reduceLE, Int.reduceLT, Int.reduceEq, Int.reduceGE, Int.reduceGT, ↓reduceIte, reduceCtorEq, gm_pe, gm_pn, gc_put, gl_put, gs_put, cd_X4_claimOf, hR.f, iI_rt]
  refine gCall.of (m_in hw (by decide) (by decide)) (by decide) (by first | omega | decide) (by first | omega | decide) ?_
  rintro r G' ⟨rfl, rfl⟩
  by_cases h2 : 0 ≤ w ∧ w ≤ 7
  case neg =>
    rw [if_neg h2]
    refine exS rfl 6 _ _ _ _ _ _ ?_
    simp (disch := omega) only [exB, Nat.reduceAdd, Nat.reduceSub, Nat.reduceMul, Nat.reduceLeDiff, Nat.reduceLT, Nat.reduceEqDiff, Nat.reduceBEq, Int.reduceAdd, Int.reduceSub, Int.reduceMul, Int.reduceNeg, Int.reduceToNat, Int.reduceLE, Int.reduceLT, Int.reduceEq, Int.reduceGE, Int.reduceGT, ↓reduceIte, reduceCtorEq, gm_pe, gm_pn, gc_put, gl_put, gs_put, cd_X4_claimOf, hR.f, iI_rt]
    exact fin _ (by unfold claZ; rw [if_neg (fun q => h2 q.2)])
  rw [if_pos h2]
  have e : claZ (M 0) c w = (if w < 5 then clA (M 0) c w else if w = 5 then lossN (M 0) c else if w = 6 then clA (M 0) c 5 else (M 0) 4 - clA (M 0) c 6) := by unfold claZ; rw [if_pos ⟨h, h2⟩]
  rw [e] at fin
  refine exS rfl 20 _ _ _ _ _ _ ?_
  simp (disch := omega) only [exB, Nat.reduceAdd, Nat.reduceSub, Nat.reduceMul, Nat.reduceLeDiff, Nat.reduceLT, Nat.reduceEqDiff, Nat.reduceBEq, Int.reduceAdd, Int.reduceSub, Int.reduceMul, Int.reduceNeg, Int.reduceToNat, Int.reduceLE, Int.reduceLT, Int.reduceEq, Int.reduceGE, Int.reduceGT, ↓reduceIte, reduceCtorEq, gm_pe, gm_pn, gc_put, gl_put, gs_put, cd_X4_claimOf, hR.f, iI_rt]
  refine ⟨fun q => ⟨fun q2 => ⟨fun q3 => ?_, fun q3 => ?_⟩, fun q2 => ?_⟩, fun q => ?_⟩
  · refine gCall.of (m_since hR (c := c) (by omega)) (by decide) (by first | omega | decide) (by first | omega | decide) ?_
    rintro r G' ⟨rfl, rfl⟩
    refine exS rfl 2 _ _ _ _ _ _ ?_
    simp (disch := omega) only [exB, Nat.reduceAdd, Nat.reduceSub, Nat.reduceMul, Nat.reduceLeDiff, Nat.reduceLT, Nat.reduceEqDiff, Nat.reduceBEq, Int.reduceAdd, Int.reduceSub, Int.reduceMul, Int.reduceNeg, Int.reduceToNat, Int.reduceLE, Int.reduceLT, Int.reduceEq, Int.reduceGE, Int.reduceGT, ↓reduceIte, reduceCtorEq, gm_pe, gm_pn, gc_put, gl_put, gs_put, cd_X4_claimOf]
    exact fin _ (by rw [if_neg (by omega), if_neg (by omega), if_neg (by omega)])
  · refine gCall.of (m_claimAt hR (c := c) (w := 5) (by omega)) (by decide) (by first | omega | decide) (by first | omega | decide) ?_
    rintro r G' ⟨rfl, rfl⟩
    refine exS rfl 6 _ _ _ _ _ _ ?_
    simp (disch := omega) only [exB, Nat.reduceAdd, Nat.reduceSub, Nat.reduceMul, Nat.reduceLeDiff, Nat.reduceLT, Nat.reduceEqDiff, Nat.reduceBEq, Int.reduceAdd, Int.reduceSub, Int.reduceMul, Int.reduceNeg, Int.reduceToNat, Int.reduceLE, Int.reduceLT, Int.reduceEq, Int.reduceGE, Int.reduceGT, ↓reduceIte, reduceCtorEq, gm_pe, gm_pn, gc_put, gl_put, gs_put, cd_X4_claimOf]
    exact fin _ (by rw [if_neg (by omega), if_neg (by omega), if_pos (by omega)])
  · refine gCall.of (m_loss hR (c := c) (by omega)) (by decide) (by first | omega | decide) (by first | omega | decide) ?_
    rintro r G' ⟨rfl, rfl⟩
    refine exS rfl 6 _ _ _ _ _ _ ?_
    simp (disch := omega) only [exB, Nat.reduceAdd, Nat.reduceSub, Nat.reduceMul, Nat.reduceLeDiff, Nat.reduceLT, Nat.reduceEqDiff, Nat.reduceBEq, Int.reduceAdd, Int.reduceSub, Int.reduceMul, Int.reduceNeg, Int.reduceToNat, Int.reduceLE, Int.reduceLT, Int.reduceEq, Int.reduceGE, Int.reduceGT, ↓reduceIte, reduceCtorEq, gm_pe, gm_pn, gc_put, gl_put, gs_put, cd_X4_claimOf]
    exact fin _ (by rw [if_neg (by omega), if_pos (by omega)])
  · refine gCall.of (m_claimAt hR (c := c) (w := w) (by omega)) (by decide) (by first | omega | decide) (by first | omega | decide) ?_
    rintro r G' ⟨rfl, rfl⟩
    refine exS rfl 6 _ _ _ _ _ _ ?_
    simp (disch := omega) only [exB, Nat.reduceAdd, Nat.reduceSub, Nat.reduceMul, Nat.reduceLeDiff, Nat.reduceLT, Nat.reduceEqDiff, Nat.reduceBEq, Int.reduceAdd, Int.reduceSub, Int.reduceMul, Int.reduceNeg, Int.reduceToNat, Int.reduceLE, Int.reduceLT, Int.reduceEq, Int.reduceGE, Int.reduceGT, ↓reduceIte, reduceCtorEq, gm_pe, gm_pn, gc_put, gl_put, gs_put, cd_X4_claimOf]
    exact fin _ (by rw [if_pos (by omega)])
theorem m_docketAt {i : Int} (hM : MS G o N L T) (hB : RowB K N) (hi : i32 i) : Tri X 4 Y_X4_docketAt [.ref o, .int (iI i)] 0 0 G (MOut G o N L T (dokZ N i) none) := by
  obtain ⟨M, V, hR, rfl, hL, hT⟩ := hM.get
  refine Tri.of (by decide +kernel) (Nat.le_of_ble_eq_true rfl) ?_
  generalize hQ : MOut G o (M 0) L T (dokZ (M 0) i) none = Q
  unfold dokZ at hQ
  refine exS rfl 6 _ _ _ _ _ _ ?_
  simp (disch := omega) only [exB, Nat.reduceAdd, Nat.reduceSub, Nat.reduceMul, Nat.reduceLeDiff, Nat.reduceLT, Nat.reduceEqDiff, Nat.reduceBEq, Int.reduceAdd, Int.reduceSub, Int.reduceMul, Int.reduceNeg, Int.reduceToNat, Int.reduceLE, Int.reduceLT, Int.reduceEq, Int.reduceGE, Int.reduceGT, ↓reduceIte, reduceCtorEq, gm_pe, gm_pn, gc_put, gl_put, gs_put, cd_X4_docketAt, hR.f, iI_rt]
  refine ⟨fun h => ?_, fun h => ?_⟩
  · rw [if_neg (by omega)] at hQ
    refine gCall.of (m_heard hR hB hi) (by decide) (by first | omega | decide) (by first | omega | decide) ?_
    rintro r G' ⟨rfl, rfl⟩
    refine exS rfl 2 _ _ _ _ _ _ ?_
    simp (disch := omega) only [exB, Nat.reduceAdd, Nat.reduceSub, Nat.reduceMul, Nat.reduceLeDiff, Nat.reduceLT, Nat.reduceEqDiff, Nat.reduceBEq, Int.reduceAdd, Int.reduceSub, Int.reduceMul, Int.reduceNeg, Int.reduceToNat, Int.reduceLE, Int.reduceLT, Int.reduceEq, Int.reduceGE, Int.reduceGT, ↓reduceIte, reduceCtorEq, gm_pe, gm_pn, gc_put, gl_put, gs_put, cd_X4_docketAt]
    subst hQ
    exact ⟨rfl, MK.refl, hM⟩
  · rw [if_pos (by omega)] at hQ
    subst hQ
    exact ⟨rfl, MK.refl, hM⟩
theorem m_wronged (hM : MS G o N L T) (hB : RowB K N) : Tri X 3 Y_X4_wronged [.ref o] 0 0 G (fun r G' => r = some (.int (wrgS N (N 6).toNat)) ∧ MK G G' o ∧ MS G' o N L T) := by
  obtain ⟨M, V, hR, rfl, hL, hT⟩ := hM.get
  have h6 := hB.2.1.2
  refine Tri.of (by decide +kernel) (Nat.le_of_ble_eq_true rfl) ?_
  generalize hQ : (fun (r : Option Value) G' => r = some (.int (wrgS (M 0) (M 0 6).toNat)) ∧ MK G G' o ∧ MS G' o (M 0) L T) = Q
  refine excS rfl 4 4 _ _ _ _ _ _ ?_
  simp (disch := omega) only [exB, Nat.reduceAdd, Nat.reduceSub, Nat.reduceMul, Nat.reduceLeDiff, Nat.reduceLT, Nat.reduceEqDiff, Nat.reduceBEq, Int.reduceAdd, Int.reduceSub, Int.reduceMul, Int.reduceNeg, Int.reduceToNat, Int.reduceLE, Int.reduceLT, Int.reduceEq, Int.reduceGE, Int.reduceGT, ↓reduceIte, reduceCtorEq, gm_pe, gm_pn, gc_put, gl_put, gs_put, cd_X4_wronged]
  refine Wp.wk' [some (.ref o), some (.int (wrgS (M 0) (0 : Int).toNat)), some (.int (iI 0)), none] ?_ (by simp [wkL, wrgS])
  refine up0 (W := fun i => Wp X Y_X4_wronged 3 Q 0 0 G 4 [some (.ref o), some (.int (wrgS (M 0) i.toNat)), some (.int (iI i)), none] []) (hi := M 0 6) 0 ?_ ?_ 0 (by decide) h6.1
  · intro i i0 i1 ih
    have e : wrgS (M 0) (i + 1).toNat = wrgS (M 0) i.toNat ||| (if wrgB (M 0) i then iI 1 <<< iI (clA (M 0) i 0) else iI 0) := by
      rw [show (i + 1).toNat = i.toNat + 1 from by omega]
      show wrgS (M 0) i.toNat ||| (if wrgB (M 0) (i.toNat : Int) then iI 1 <<< iI (clA (M 0) (i.toNat : Int) 0) else iI 0) = _
      rw [show ((i.toNat : Nat) : Int) = i from by omega]
    rw [e] at ih
    generalize wrgS (M 0) i.toNat = s at ih ⊢
    obtain ⟨q0, -, -, -, q4, -⟩ := hB.2.2.2.2.2.2 i i0 (by omega)
    have c0 : 0 ≤ clA (M 0) i 0 ∧ clA (M 0) i 0 ≤ 5 := q0
    have c4 : 0 ≤ clA (M 0) i 4 ∧ clA (M 0) i 4 ≤ 10000 := q4
    have lb := loss_b hB i0 (by omega)
    have nx : ∀ x u, x = (s ||| (if wrgB (M 0) i then iI 1 <<< iI (clA (M 0) i 0) else iI 0)) → Wp X Y_X4_wronged 3 Q 0 0 G 4 [some (.ref o), some (.int x), some (.int (iI (i + 1))), u] [] := fun x u h => by rw [h]; exact ih.wk' _ (by simp [wkL])
    refine excS rfl 4 12 _ _ _ _ _ _ ?_
    simp (disch := omega) only [exB, Nat.reduceAdd, Nat.reduceSub, Nat.reduceMul, Nat.reduceLeDiff, Nat.reduceLT, Nat.reduceEqDiff, Nat.reduceBEq, Int.reduceAdd, Int.reduceSub, Int.reduceMul, Int.reduceNeg, Int.reduceToNat, Int.reduceLE, Int.reduceLT, Int.reduceEq, Int.reduceGE, Int.reduceGT, ↓reduceIte, reduceCtorEq, gm_pe, gm_pn, gc_put, gl_put, gs_put, cd_X4_wronged, hR.f, iI_rt]
    refine ⟨fun h => absurd h (by omega), fun _ => ?_⟩
    refine gCall.of (m_claimAt hR (c := i) (w := 0) (by omega)) (by decide) (by first | omega | decide) (by first | omega | decide) ?_
    rintro r G' ⟨rfl, rfl⟩
    refine excS rfl 4 12 _ _ _ _ _ _ ?_
    simp (disch := omega) only [exB, Nat.reduceAdd, Nat.reduceSub, Nat.reduceMul, Nat.reduceLeDiff, Nat.reduceLT, Nat.reduceEqDiff, Nat.reduceBEq, Int.reduceAdd, Int.reduceSub, Int.reduceMul, Int.reduceNeg, Int.reduceToNat, Int.reduceLE, Int.reduceLT, Int.reduceEq, Int.reduceGE, Int.reduceGT, ↓reduceIte, reduceCtorEq, gm_pe, gm_pn, gc_put, gl_put, gs_put, cd_X4_wronged, hR.f, iI_rt]
    refine gCall.of (m_isJoined hR (n := clA (M 0) i 0) (by omega)) (by decide) (by first | omega | decide) (by first | omega | decide) ?_
    rintro r G' ⟨rfl, rfl⟩
    by_cases hj : jnd (M 0) (clA (M 0) i 0)
    · rw [if_pos hj]
      refine excS rfl 4 12 _ _ _ _ _ _ ?_
      simp (disch := omega) only [exB, Nat.reduceAdd, Nat.reduceSub, Nat.reduceMul, Nat.reduceLeDiff, Nat.reduceLT, Nat.reduceEqDiff, Nat.reduceBEq, Int.reduceAdd, Int.reduceSub, Int.reduceMul, Int.reduceNeg, Int.reduceToNat, Int.reduceLE, Int.reduceLT, Int.reduceEq, Int.reduceGE, Int.reduceGT, ↓reduceIte, reduceCtorEq, gm_pe, gm_pn, gc_put, gl_put, gs_put, cd_X4_wronged, hR.f, iI_rt]
      exact nx _ _ (by rw [if_neg (fun q => q.1 hj)])
    rw [if_neg hj]
    refine excS rfl 4 12 _ _ _ _ _ _ ?_
    simp (disch := omega) only [exB, Nat.reduceAdd, Nat.reduceSub, Nat.reduceMul, Nat.reduceLeDiff, Nat.reduceLT, Nat.reduceEqDiff, Nat.reduceBEq, Int.reduceAdd, Int.reduceSub, Int.reduceMul, Int.reduceNeg, Int.reduceToNat, Int.reduceLE, Int.reduceLT, Int.reduceEq, Int.reduceGE, Int.reduceGT, ↓reduceIte, reduceCtorEq, gm_pe, gm_pn, gc_put, gl_put, gs_put, cd_X4_wronged, hR.f, iI_rt]
    refine gCall.of (m_claimAt hR (c := i) (w := 4) (by omega)) (by decide) (by first | omega | decide) (by first | omega | decide) ?_
    rintro r G' ⟨rfl, rfl⟩
    refine excS rfl 4 12 _ _ _ _ _ _ ?_
    simp (disch := omega) only [exB, Nat.reduceAdd, Nat.reduceSub, Nat.reduceMul, Nat.reduceLeDiff, Nat.reduceLT, Nat.reduceEqDiff, Nat.reduceBEq, Int.reduceAdd, Int.reduceSub, Int.reduceMul, Int.reduceNeg, Int.reduceToNat, Int.reduceLE, Int.reduceLT, Int.reduceEq, Int.reduceGE, Int.reduceGT, ↓reduceIte, reduceCtorEq, gm_pe, gm_pn, gc_put, gl_put, gs_put, cd_X4_wronged, hR.f, iI_rt]
    refine gCall.of (m_loss hR (c := i) (by omega)) (by decide) (by first | omega | decide) (by first | omega | decide) ?_
    rintro r G' ⟨rfl, rfl⟩
    refine excS rfl 4 12 _ _ _ _ _ _ ?_
    simp (disch := omega) only [exB, Nat.reduceAdd, Nat.reduceSub, Nat.reduceMul, Nat.reduceLeDiff, Nat.reduceLT, Nat.reduceEqDiff, Nat.reduceBEq, Int.reduceAdd, Int.reduceSub, Int.reduceMul, Int.reduceNeg, Int.reduceToNat, Int.reduceLE, Int.reduceLT, Int.reduceEq, Int.reduceGE, Int.reduceGT, ↓reduceIte, reduceCtorEq, gm_pe, gm_pn, gc_put, gl_put, gs_put, cd_X4_wronged, hR.f, iI_rt]
    refine ⟨fun z => nx _ _ (by rw [if_neg (fun q => by have := q.2; omega)]), fun z => nx _ _ (by rw [if_pos ⟨hj, by omega⟩, iI_and31 (by omega)])⟩
  · refine excS rfl 4 12 _ _ _ _ _ _ ?_
    subst hQ
    simp (disch := omega) only [exB, Nat.reduceAdd, Nat.reduceSub, Nat.reduceMul, Nat.reduceLeDiff, Nat.reduceLT, Nat.reduceEqDiff, Nat.reduceBEq, Int.reduceAdd, Int.reduceSub, Int.reduceMul, Int.reduceNeg, Int.reduceToNat, Int.reduceLE, Int.reduceLT, Int.reduceEq, Int.reduceGE, Int.reduceGT, ↓reduceIte, reduceCtorEq, gm_pe, gm_pn, gc_put, gl_put, gs_put, cd_X4_wronged, hR.f, iI_rt]
    exact ⟨fun _ => ⟨MK.refl, hM⟩, fun z => absurd (Int.le_refl _) z⟩
end
