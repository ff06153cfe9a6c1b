/-! THE MODEL 3: places, nets, what is told of them -/
set_option maxRecDepth 100000
theorem IA.ext {G : gH} {a t n : Nat} {f g : Int → Int} (h : IA G a t n f) (e : ∀ z : Int, 0 ≤ z → z < n → f z = g z) : IA G a t n g :=
  ⟨h.1, h.2.1, fun z h0 h1 => by rw [← e z h0 h1]; exact h.2.2 z h0 h1⟩
theorem MS.get {G : gH} {o : Nat} {N : Int → Int} {L : List (Int → Int)} {T : List Int} (h : MS G o N L T) : ∃ M V, MR G o M V ∧ M 0 = N ∧ HistOK M V L ∧ TextOK M V T := by
  obtain ⟨M, V, ⟨h1, h2, a1, a2, a3, a4, a5, a6, a7, a8, a9⟩, hN, hL, hT⟩ := h
  have e : ∀ f, f ≠ 0 → M f = (fun f => if f = 0 then N else M f) f := fun f hf => by simp [hf]
  exact ⟨fun f => if f = 0 then N else M f, V, ⟨h1, h2, a1.ext (fun z h0 h1 => hN z h0 h1), a2, a3, a4, a5, a6, a7, a8, a9⟩, rfl, hL, hT⟩
theorem MS.mk {G : gH} {o : Nat} {M : Nat → Int → Int} {V : Nat → Int} {N : Int → Int} {L : List (Int → Int)} {T : List Int} (h : MR G o M V) (h0 : M 0 = N) (hL : HistOK M V L) (hT : TextOK M V T) : MS G o N L T := ⟨M, V, h, fun j _ _ => by rw [h0], hL, hT⟩
theorem RowEq.of {a b : Int → Int} (h : a = b) : RowEq a b := fun _ _ _ => by rw [h]
theorem sumI_congr {f g : Int → Int} : ∀ (n : Nat), (∀ i : Nat, i < n → f i = g i) → sumI f n = sumI g n
  | 0, _ => rfl
  | n + 1, h => by
    show sumI f n + f n = sumI g n + g n
    rw [sumI_congr n (fun i hi => h i (by omega)), h n (by omega)]
def wireC (N : Int → Int) (n : Int) : Int := sumI (fun c => if N (7 + c) = 1 + n then 1 else 0) 162
def viaC (N : Int → Int) (n : Int) : Int := sumI (fun p => if N (7 + p) = 1 + n ∧ N (88 + p) = 1 + n then 1 else 0) 81
def blkC (N : Int → Int) : Int := sumI (fun p => if N (7 + p) = 20 then 1 else 0) 81
theorem wireC_b (N : Int → Int) (n : Int) : 0 ≤ wireC N n ∧ wireC N n ≤ 162 := sumI_b (fun i => by split <;> omega) 162
theorem viaC_b (N : Int → Int) (n : Int) : 0 ≤ viaC N n ∧ viaC N n ≤ 81 := sumI_b (fun i => by split <;> omega) 81
theorem blkC_b (N : Int → Int) : 0 ≤ blkC N ∧ blkC N ≤ 81 := sumI_b (fun i => by split <;> omega) 81
/-- what is always true of the numbers of nets and claims -/
def NumOK (N : Int → Int) : Prop := (0 ≤ N 5 ∧ N 5 ≤ 6) ∧ (0 ≤ N 6 ∧ N 6 ≤ 12)
abbrev isN (N : Int → Int) (n : Int) : Prop := 0 ≤ n ∧ n ≤ N 5 - 1
abbrev isC (N : Int → Int) (n : Int) : Prop := 0 ≤ n ∧ n ≤ N 6 - 1
section
variable {X : gX} {G : gH} {o : Nat} {N : Int → Int} {L : List (Int → Int)} {T : List Int} {M : Nat → Int → Int} {V : Nat → Int}
theorem m_wireMany {n : Int} (hM : MR G o M V) (hn : 0 ≤ n ∧ n < 100) : Tri X 1 Y_X4_wireMany [.ref o, .int (iI n)] 0 0 G (fun r G' => r = some (.int (iI (wireC (M 0) n))) ∧ G' = G) := by
  refine Tri.of (by decide +kernel) (Nat.le_of_ble_eq_true rfl) ?_
  refine exS rfl 4 _ _ _ _ _ _ ?_
  simp (disch := omega) only [exB, Nat.reduceAdd, Nat.reduceSub, Nat.reduceMul, Nat.reduceLeDiff, Nat.reduceLT, Nat.reduceEqDiff, Nat.reduceBEq, Int.reduceAdd, Int.reduceSub, Int.reduceMul, Int.reduceNeg, Int.reduceToNat, Int.reduceLE, Int.reduceLT, Int.reduceEq, Int.reduceGE, Int.reduceGT, ↓reduceIte, reduceCtorEq, gm_pe, gm_pn, gc_put, gl_put, gs_put, cd_X4_wireMany]
  generalize hQ : (fun (r : Option Value) G' => r = some (.int (iI (wireC (M 0) n))) ∧ G' = G) = Q
  refine up0 (W := fun i => Wp X Y_X4_wireMany 1 Q 0 0 G 4 [some (.ref o), some (.int (iI n)), some (.int (iI (sumI (fun c => if M 0 (7 + c) = 1 + n then 1 else 0) i.toNat))), some (.int (iI i))] []) (hi := 162) 0 ?_ ?_ 0 (by decide) (by decide)
  · intro i h0 h1 ih
    have b1 := hM.bA (z := 7 + i) (by omega) (by omega)
    rw [sumI_s h0] at ih
    refine excS rfl 4 40 _ _ _ _ _ _ ?_
    simp (disch := omega) only [exB, Nat.reduceAdd, Nat.reduceSub, Nat.reduceMul, Nat.reduceLeDiff, Nat.reduceLT, Nat.reduceEqDiff, Nat.reduceBEq, Int.reduceAdd, Int.reduceSub, Int.reduceMul, Int.reduceNeg, Int.reduceToNat, Int.reduceLE, Int.reduceLT, Int.reduceEq, Int.reduceGE, Int.reduceGT, ↓reduceIte, reduceCtorEq, gm_pe, gm_pn, gc_put, gl_put, gs_put, cd_X4_wireMany, hM.f, iI_rt]
    refine ⟨fun h => absurd h (by omega), fun _ => ?_⟩
    refine ⟨by omega, by omega, fun h => ?_, fun h => ?_⟩
    · rw [if_neg h] at ih; exact ih
    · rw [if_pos (Classical.not_not.mp h)] at ih; exact ih
  · refine exS rfl 6 _ _ _ _ _ _ ?_
    subst hQ
    simp (disch := omega) only [exB, Nat.reduceAdd, Nat.reduceSub, Nat.reduceMul, Nat.reduceLeDiff, Nat.reduceLT, Nat.reduceEqDiff, Nat.reduceBEq, Int.reduceAdd, Int.reduceSub, Int.reduceMul, Int.reduceNeg, Int.reduceToNat, Int.reduceLE, Int.reduceLT, Int.reduceEq, Int.reduceGE, Int.reduceGT, ↓reduceIte, reduceCtorEq, gm_pe, gm_pn, gc_put, gl_put, gs_put, cd_X4_wireMany, hM.f, iI_rt]
    trivial
theorem m_viaMany {n : Int} (hM : MR G o M V) (hn : 0 ≤ n ∧ n < 100) : Tri X 1 Y_X4_viaMany [.ref o, .int (iI n)] 0 0 G (fun r G' => r = some (.int (iI (viaC (M 0) n))) ∧ G' = G) := by
  refine Tri.of (by decide +kernel) (Nat.le_of_ble_eq_true rfl) ?_
  refine exS rfl 4 _ _ _ _ _ _ ?_
  simp (disch := omega) only [exB, Nat.reduceAdd, Nat.reduceSub, Nat.reduceMul, Nat.reduceLeDiff, Nat.reduceLT, Nat.reduceEqDiff, Nat.reduceBEq, Int.reduceAdd, Int.reduceSub, Int.reduceMul, Int.reduceNeg, Int.reduceToNat, Int.reduceLE, Int.reduceLT, Int.reduceEq, Int.reduceGE, Int.reduceGT, ↓reduceIte, reduceCtorEq, gm_pe, gm_pn, gc_put, gl_put, gs_put, cd_X4_viaMany]
  generalize hQ : (fun (r : Option Value) G' => r = some (.int (iI (viaC (M 0) n))) ∧ G' = G) = Q
  refine up0 (W := fun i => Wp X Y_X4_viaMany 1 Q 0 0 G 4 [some (.ref o), some (.int (iI n)), some (.int (iI (sumI (fun p => if M 0 (7 + p) = 1 + n ∧ M 0 (88 + p) = 1 + n then 1 else 0) i.toNat))), some (.int (iI i))] []) (hi := 81) 0 ?_ ?_ 0 (by decide) (by decide)
  · intro i h0 h1 ih
    have b1 := hM.bA (z := 7 + i) (by omega) (by omega)
    have b2 := hM.bA (z := 88 + i) (by omega) (by omega)
    rw [sumI_s h0] at ih
    refine excS rfl 4 40 _ _ _ _ _ _ ?_
    simp (disch := omega) only [exB, Nat.reduceAdd, Nat.reduceSub, Nat.reduceMul, Nat.reduceLeDiff, Nat.reduceLT, Nat.reduceEqDiff, Nat.reduceBEq, Int.reduceAdd, Int.reduceSub, Int.reduceMul, Int.reduceNeg, Int.reduceToNat, Int.reduceLE, Int.reduceLT, Int.reduceEq, Int.reduceGE, Int.reduceGT, ↓reduceIte, reduceCtorEq, gm_pe, gm_pn, gc_put, gl_put, gs_put, cd_X4_viaMany, hM.f, iI_rt]
    refine ⟨fun h => absurd h (by omega), fun _ => ?_⟩
    refine ⟨by omega, by omega, fun h => ?_, fun h => ⟨by omega, by omega, fun h' => ?_, fun h' => ?_⟩⟩
    · rw [if_neg (fun q => h q.1)] at ih; exact ih
    · rw [if_neg (fun q => h' q.2)] at ih; exact ih
    · rw [if_pos ⟨Classical.not_not.mp h, Classical.not_not.mp h'⟩] at ih; exact ih
  · refine exS rfl 6 _ _ _ _ _ _ ?_
    subst hQ
    simp (disch := omega) only [exB, Nat.reduceAdd, Nat.reduceSub, Nat.reduceMul, Nat.reduceLeDiff, Nat.reduceLT, Nat.reduceEqDiff, Nat.reduceBEq, Int.reduceAdd, Int.reduceSub, Int.reduceMul, Int.reduceNeg, Int.reduceToNat, Int.reduceLE, Int.reduceLT, Int.reduceEq, Int.reduceGE, Int.reduceGT, ↓reduceIte, reduceCtorEq, gm_pe, gm_pn, gc_put, gl_put, gs_put, cd_X4_viaMany, hM.f, iI_rt]
    trivial
/-- a cell's owner as it is told -/
def tellO (z : Int) : Int := if z = 0 then -1000004 else if z = 20 then 20 else z - 1
theorem m_cellOf {c : Int} (hM : MS G o N L T) (hc : i32 c) : Tri X 2 Y_X4_cellOf [.ref o, .int (iI c)] 0 0 G (fun r G' => r = some (.int (iI (if 0 ≤ c ∧ c ≤ 161 then tellO (N (7 + c)) else -1000001))) ∧ G' = G) := by
  obtain ⟨M, V, hR, rfl, hL, hT⟩ := hM.get
  refine Tri.of (by decide +kernel) (Nat.le_of_ble_eq_true rfl) ?_
  refine exS rfl 6 _ _ _ _ _ _ ?_
  simp (disch := omega) only [exB, Nat.reduceAdd, Nat.reduceSub, Nat.reduceMul, Nat.reduceLeDiff, Nat.reduceLT, Nat.reduceEqDiff, Nat.reduceBEq, Int.reduceAdd, Int.reduceSub, Int.reduceMul, Int.reduceNeg, Int.reduceToNat, Int.reduceLE, Int.reduceLT, Int.reduceEq, Int.reduceGE, Int.reduceGT, ↓reduceIte, reduceCtorEq, gm_pe, gm_pn, gc_put, gl_put, gs_put, cd_X4_cellOf]
  refine gCall.of (m_in hc (by decide) (by decide)) (by decide) (by first | omega | decide) (by first | omega | decide) ?_
  rintro r G' ⟨rfl, rfl⟩
  by_cases h : 0 ≤ c ∧ c ≤ 161
  · rw [if_pos h]
    have b1 := hR.bA (z := 7 + c) (by omega) (by omega)
    refine exS rfl 40 _ _ _ _ _ _ ?_
    simp (disch := omega) only [exB, Nat.reduceAdd, Nat.reduceSub, Nat.reduceMul, Nat.reduceLeDiff, Nat.reduceLT, Nat.reduceEqDiff, Nat.reduceBEq, Int.reduceAdd, Int.reduceSub, Int.reduceMul, Int.reduceNeg, Int.reduceToNat, Int.reduceLE, Int.reduceLT, Int.reduceEq, Int.reduceGE, Int.reduceGT, ↓reduceIte, reduceCtorEq, gm_pe, gm_pn, gc_put, gl_put, gs_put, cd_X4_cellOf, hR.f, iI_rt, if_pos h]
    unfold tellO
    grind
  · rw [if_neg h]
    refine exS rfl 6 _ _ _ _ _ _ ?_
    simp (disch := omega) only [exB, Nat.reduceAdd, Nat.reduceSub, Nat.reduceMul, Nat.reduceLeDiff, Nat.reduceLT, Nat.reduceEqDiff, Nat.reduceBEq, Int.reduceAdd, Int.reduceSub, Int.reduceMul, Int.reduceNeg, Int.reduceToNat, Int.reduceLE, Int.reduceLT, Int.reduceEq, Int.reduceGE, Int.reduceGT, ↓reduceIte, reduceCtorEq, gm_pe, gm_pn, gc_put, gl_put, gs_put, cd_X4_cellOf, iI_rt, if_neg h]
/-- what netOf tells -/
def netA (N : Int → Int) (n w : Int) : Int :=
  if w = 2 then (if N (169 + 9 * n + 2) < 0 then -1000004 else N (169 + 9 * n + 2)) else if w = 6 then wireC N n else if w = 7 then viaC N n else if w = 8 then N (169 + 9 * n + 6) else if w = 9 then N (169 + 9 * n + 7) else if w = 10 then N (169 + 9 * n + 8) else N (169 + 9 * n + w)
theorem m_netOf {n w : Int} (hM : MS G o N L T) (hO : NumOK N) (hn : i32 n) (hw : i32 w) : Tri X 3 Y_X4_netOf [.ref o, .int (iI n), .int (iI w)] 0 0 G (fun r G' => r = some (.int (iI (if isN N n ∧ 0 ≤ w ∧ w ≤ 10 then netA N n w else -1000001))) ∧ G' = G) := by
  obtain ⟨M, V, hR, rfl, hL, hT⟩ := hM.get
  obtain ⟨hO1, hO2⟩ := hO
  refine Tri.of (by decide +kernel) (Nat.le_of_ble_eq_true rfl) ?_
  refine exS rfl 6 _ _ _ _ _ _ ?_
  simp (disch := omega) only [exB, Nat.reduceAdd, Nat.reduceSub, Nat.reduceMul, Nat.reduceLeDiff, Nat.reduceLT, Nat.reduceEqDiff, Nat.reduceBEq, Int.reduceAdd, Int.reduceSub, Int.reduceMul, Int.reduceNeg, Int.reduceToNat, Int.reduceLE, Int.reduceLT, Int.reduceEq, Int.reduceGE, Int.reduceGT, ↓reduceIte, reduceCtorEq, gm_pe, gm_pn, gc_put, gl_put, gs_put, cd_X4_netOf, hR.f]
  refine gCall.of (m_isNet hR hn (by omega)) (by decide) (by first | omega | decide) (by first | omega | decide) ?_
  rintro r G' ⟨rfl, rfl⟩
  by_cases h : isN (M 0) n
  · rw [if_pos h]
    refine exS rfl 6 _ _ _ _ _ _ ?_
    simp (disch := omega) only [exB, Nat.reduceAdd, Nat.reduceSub, Nat.reduceMul, Nat.reduceLeDiff, Nat.reduceLT, Nat.reduceEqDiff, Nat.reduceBEq, Int.reduceAdd, Int.reduceSub, Int.reduceMul, Int.reduceNeg, Int.reduceToNat, Int.reduceLE, Int.reduceLT, Int.reduceEq, Int.reduceGE, Int.reduceGT, ↓reduceIte, reduceCtorEq, gm_pe, gm_pn, gc_put, gl_put, gs_put, cd_X4_netOf, hR.f, iI_rt]
    refine gCall.of (m_in hw (by decide) (by decide)) (by decide) (by first | omega | decide) (by first | omega | decide) ?_
    rintro r G' ⟨rfl, rfl⟩
    by_cases h2 : 0 ≤ w ∧ w ≤ 10
    · rw [if_pos h2, if_pos ⟨h, h2⟩]
      unfold isN at h
      refine exS rfl 8 _ _ _ _ _ _ ?_
      simp (disch := omega) only [exB, Nat.reduceAdd, Nat.reduceSub, Nat.reduceMul, Nat.reduceLeDiff, Nat.reduceLT, Nat.reduceEqDiff, Nat.reduceBEq, Int.reduceAdd, Int.reduceSub, Int.reduceMul, Int.reduceNeg, Int.reduceToNat, Int.reduceLE, Int.reduceLT, Int.reduceEq, Int.reduceGE, Int.reduceGT, ↓reduceIte, reduceCtorEq, gm_pe, gm_pn, gc_put, gl_put, gs_put, cd_X4_netOf, hR.f, iI_rt, List.length]
      refine ⟨?_, ?_, ?_, ?_, ?_, ?_, ?_, ?_, ?_, ?_⟩
      · intro hq
        refine gCall.of (m_of hR (by omega)) (by decide) (by first | omega | decide) (by first | omega | decide) ?_
        rintro r G' ⟨rfl, rfl⟩
        refine exS rfl 2 _ _ _ _ _ _ ?_
        simp (disch := omega) only [exB, Nat.reduceAdd, Nat.reduceSub, Nat.reduceMul, Nat.reduceLeDiff, Nat.reduceLT, Nat.reduceEqDiff, Nat.reduceBEq, Int.reduceAdd, Int.reduceSub, Int.reduceMul, Int.reduceNeg, Int.reduceToNat, Int.reduceLE, Int.reduceLT, Int.reduceEq, Int.reduceGE, Int.reduceGT, ↓reduceIte, reduceCtorEq, gm_pe, gm_pn, gc_put, gl_put, gs_put, cd_X4_netOf, iI_rt]
        unfold netA
        grind
      · intro hq
        have b1 := hR.bA (z := 169 + 9 * n + 2) (by omega) (by omega)
        refine gCall.of (m_of hR (by omega)) (by decide) (by first | omega | decide) (by first | omega | decide) ?_
        rintro r G' ⟨rfl, rfl⟩
        refine exS rfl 8 _ _ _ _ _ _ ?_
        simp (disch := omega) only [exB, Nat.reduceAdd, Nat.reduceSub, Nat.reduceMul, Nat.reduceLeDiff, Nat.reduceLT, Nat.reduceEqDiff, Nat.reduceBEq, Int.reduceAdd, Int.reduceSub, Int.reduceMul, Int.reduceNeg, Int.reduceToNat, Int.reduceLE, Int.reduceLT, Int.reduceEq, Int.reduceGE, Int.reduceGT, ↓reduceIte, reduceCtorEq, gm_pe, gm_pn, gc_put, gl_put, gs_put, cd_X4_netOf, hR.f, iI_rt]
        refine ⟨fun h0 => ?_, fun h0 => ?_⟩
        · refine gCall.of (m_of hR (by omega)) (by decide) (by first | omega | decide) (by first | omega | decide) ?_
          rintro r G' ⟨rfl, rfl⟩
          refine exS rfl 2 _ _ _ _ _ _ ?_
          simp (disch := omega) only [exB, Nat.reduceAdd, Nat.reduceSub, Nat.reduceMul, Nat.reduceLeDiff, Nat.reduceLT, Nat.reduceEqDiff, Nat.reduceBEq, Int.reduceAdd, Int.reduceSub, Int.reduceMul, Int.reduceNeg, Int.reduceToNat, Int.reduceLE, Int.reduceLT, Int.reduceEq, Int.reduceGE, Int.reduceGT, ↓reduceIte, reduceCtorEq, gm_pe, gm_pn, gc_put, gl_put, gs_put, cd_X4_netOf, iI_rt]
          unfold netA
          grind
        · unfold netA
          grind
      · intro hq
        refine gCall.of (m_of hR (by omega)) (by decide) (by first | omega | decide) (by first | omega | decide) ?_
        rintro r G' ⟨rfl, rfl⟩
        refine exS rfl 2 _ _ _ _ _ _ ?_
        simp (disch := omega) only [exB, Nat.reduceAdd, Nat.reduceSub, Nat.reduceMul, Nat.reduceLeDiff, Nat.reduceLT, Nat.reduceEqDiff, Nat.reduceBEq, Int.reduceAdd, Int.reduceSub, Int.reduceMul, Int.reduceNeg, Int.reduceToNat, Int.reduceLE, Int.reduceLT, Int.reduceEq, Int.reduceGE, Int.reduceGT, ↓reduceIte, reduceCtorEq, gm_pe, gm_pn, gc_put, gl_put, gs_put, cd_X4_netOf, iI_rt]
        unfold netA
        grind
      · intro hq
        refine gCall.of (m_of hR (by omega)) (by decide) (by first | omega | decide) (by first | omega | decide) ?_
        rintro r G' ⟨rfl, rfl⟩
        refine exS rfl 2 _ _ _ _ _ _ ?_
        simp (disch := omega) only [exB, Nat.reduceAdd, Nat.reduceSub, Nat.reduceMul, Nat.reduceLeDiff, Nat.reduceLT, Nat.reduceEqDiff, Nat.reduceBEq, Int.reduceAdd, Int.reduceSub, Int.reduceMul, Int.reduceNeg, Int.reduceToNat, Int.reduceLE, Int.reduceLT, Int.reduceEq, Int.reduceGE, Int.reduceGT, ↓reduceIte, reduceCtorEq, gm_pe, gm_pn, gc_put, gl_put, gs_put, cd_X4_netOf, iI_rt]
        unfold netA
        grind
      · intro hq
        refine gCall.of (m_of hR (by omega)) (by decide) (by first | omega | decide) (by first | omega | decide) ?_
        rintro r G' ⟨rfl, rfl⟩
        refine exS rfl 2 _ _ _ _ _ _ ?_
        simp (disch := omega) only [exB, Nat.reduceAdd, Nat.reduceSub, Nat.reduceMul, Nat.reduceLeDiff, Nat.reduceLT, Nat.reduceEqDiff, Nat.reduceBEq, Int.reduceAdd, Int.reduceSub, Int.reduceMul, Int.reduceNeg, Int.reduceToNat, Int.reduceLE, Int.reduceLT, Int.reduceEq, Int.reduceGE, Int.reduceGT, ↓reduceIte, reduceCtorEq, gm_pe, gm_pn, gc_put, gl_put, gs_put, cd_X4_netOf, iI_rt]
        unfold netA
        grind
      · intro hq
        refine gCall.of (m_wireMany hR (by omega)) (by decide) (by first | omega | decide) (by first | omega | decide) ?_
        rintro r G' ⟨rfl, rfl⟩
        refine exS rfl 2 _ _ _ _ _ _ ?_
        simp (disch := omega) only [exB, Nat.reduceAdd, Nat.reduceSub, Nat.reduceMul, Nat.reduceLeDiff, Nat.reduceLT, Nat.reduceEqDiff, Nat.reduceBEq, Int.reduceAdd, Int.reduceSub, Int.reduceMul, Int.reduceNeg, Int.reduceToNat, Int.reduceLE, Int.reduceLT, Int.reduceEq, Int.reduceGE, Int.reduceGT, ↓reduceIte, reduceCtorEq, gm_pe, gm_pn, gc_put, gl_put, gs_put, cd_X4_netOf, iI_rt]
        unfold netA
        grind
      · intro hq
        refine gCall.of (m_viaMany hR (by omega)) (by decide) (by first | omega | decide) (by first | omega | decide) ?_
        rintro r G' ⟨rfl, rfl⟩
        refine exS rfl 2 _ _ _ _ _ _ ?_
        simp (disch := omega) only [exB, Nat.reduceAdd, Nat.reduceSub, Nat.reduceMul, Nat.reduceLeDiff, Nat.reduceLT, Nat.reduceEqDiff, Nat.reduceBEq, Int.reduceAdd, Int.reduceSub, Int.reduceMul, Int.reduceNeg, Int.reduceToNat, Int.reduceLE, Int.reduceLT, Int.reduceEq, Int.reduceGE, Int.reduceGT, ↓reduceIte, reduceCtorEq, gm_pe, gm_pn, gc_put, gl_put, gs_put, cd_X4_netOf, iI_rt]
        unfold netA
        grind
      · intro hq
        refine gCall.of (m_of hR (by omega)) (by decide) (by first | omega | decide) (by first | omega | decide) ?_
        rintro r G' ⟨rfl, rfl⟩
        refine exS rfl 2 _ _ _ _ _ _ ?_
        simp (disch := omega) only [exB, Nat.reduceAdd, Nat.reduceSub, Nat.reduceMul, Nat.reduceLeDiff, Nat.reduceLT, Nat.reduceEqDiff, Nat.reduceBEq, Int.reduceAdd, Int.reduceSub, Int.reduceMul, Int.reduceNeg, Int.reduceToNat, Int.reduceLE, Int.reduceLT, Int.reduceEq, Int.reduceGE, Int.reduceGT, ↓reduceIte, reduceCtorEq, gm_pe, gm_pn, gc_put, gl_put, gs_put, cd_X4_netOf, iI_rt]
        unfold netA
        grind
      · intro hq
        refine gCall.of (m_of hR (by omega)) (by decide) (by first | omega | decide) (by first | omega | decide) ?_
        rintro r G' ⟨rfl, rfl⟩
        refine exS rfl 2 _ _ _ _ _ _ ?_
        simp (disch := omega) only [exB, Nat.reduceAdd, Nat.reduceSub, Nat.reduceMul, Nat.reduceLeDiff, Nat.reduceLT, Nat.reduceEqDiff, Nat.reduceBEq, Int.reduceAdd, Int.reduceSub, Int.reduceMul, Int.reduceNeg, Int.reduceToNat, Int.reduceLE, Int.reduceLT, Int.reduceEq, Int.reduceGE, Int.reduceGT, ↓reduceIte, reduceCtorEq, gm_pe, gm_pn, gc_put, gl_put, gs_put, cd_X4_netOf, iI_rt]
        unfold netA
        grind
      · intro hq
        refine gCall.of (m_of hR (by omega)) (by decide) (by first | omega | decide) (by first | omega | decide) ?_
        rintro r G' ⟨rfl, rfl⟩
        refine exS rfl 2 _ _ _ _ _ _ ?_
        simp (disch := omega) only [exB, Nat.reduceAdd, Nat.reduceSub, Nat.reduceMul, Nat.reduceLeDiff, Nat.reduceLT, Nat.reduceEqDiff, Nat.reduceBEq, Int.reduceAdd, Int.reduceSub, Int.reduceMul, Int.reduceNeg, Int.reduceToNat, Int.reduceLE, Int.reduceLT, Int.reduceEq, Int.reduceGE, Int.reduceGT, ↓reduceIte, reduceCtorEq, gm_pe, gm_pn, gc_put, gl_put, gs_put, cd_X4_netOf, iI_rt]
        unfold netA
        grind
    · rw [if_neg h2, if_neg (fun q => h2 q.2)]
      refine exS rfl 6 _ _ _ _ _ _ ?_
      simp (disch := omega) only [exB, Nat.reduceAdd, Nat.reduceSub, Nat.reduceMul, Nat.reduceLeDiff, Nat.reduceLT, Nat.reduceEqDiff, Nat.reduceBEq, Int.reduceAdd, Int.reduceSub, Int.reduceMul, Int.reduceNeg, Int.reduceToNat, Int.reduceLE, Int.reduceLT, Int.reduceEq, Int.reduceGE, Int.reduceGT, ↓reduceIte, reduceCtorEq, gm_pe, gm_pn, gc_put, gl_put, gs_put, cd_X4_netOf, iI_rt]
  · rw [if_neg h, if_neg (fun q => h q.1)]
    refine exS rfl 6 _ _ _ _ _ _ ?_
    simp (disch := omega) only [exB, Nat.reduceAdd, Nat.reduceSub, Nat.reduceMul, Nat.reduceLeDiff, Nat.reduceLT, Nat.reduceEqDiff, Nat.reduceBEq, Int.reduceAdd, Int.reduceSub, Int.reduceMul, Int.reduceNeg, Int.reduceToNat, Int.reduceLE, Int.reduceLT, Int.reduceEq, Int.reduceGE, Int.reduceGT, ↓reduceIte, reduceCtorEq, gm_pe, gm_pn, gc_put, gl_put, gs_put, cd_X4_netOf, iI_rt]
/-- the i-th cell of a wire, from c on -/
def wireFrom (N : Int → Int) (n : Int) : Nat → Int → Int → Int
  | 0, _, _ => -1000004
  | f + 1, c, left => if N (7 + c) = 1 + n then (if left = 0 then c else wireFrom N n f (c + 1) (left - 1)) else wireFrom N n f (c + 1) left
theorem m_wireAt {n i : Int} (hM : MS G o N L T) (hO : NumOK N) (hn : i32 n) (hi : i32 i) : Tri X 3 Y_X4_wireAt [.ref o, .int (iI n), .int (iI i)] 0 0 G (fun r G' => r = some (.int (iI (if isN N n ∧ 0 ≤ i then wireFrom N n 162 0 i else -1000001))) ∧ G' = G) := by
  obtain ⟨M, V, hR, rfl, hL, hT⟩ := hM.get
  obtain ⟨hO1, hO2⟩ := hO
  refine Tri.of (by decide +kernel) (Nat.le_of_ble_eq_true rfl) ?_
  refine exS rfl 6 _ _ _ _ _ _ ?_
  simp (disch := omega) only [exB, Nat.reduceAdd, Nat.reduceSub, Nat.reduceMul, Nat.reduceLeDiff, Nat.reduceLT, Nat.reduceEqDiff, Nat.reduceBEq, Int.reduceAdd, Int.reduceSub, Int.reduceMul, Int.reduceNeg, Int.reduceToNat, Int.reduceLE, Int.reduceLT, Int.reduceEq, Int.reduceGE, Int.reduceGT, ↓reduceIte, reduceCtorEq, gm_pe, gm_pn, gc_put, gl_put, gs_put, cd_X4_wireAt, hR.f]
  refine gCall.of (m_isNet hR hn (by omega)) (by decide) (by first | omega | decide) (by first | omega | decide) ?_
  rintro r G' ⟨rfl, rfl⟩
  by_cases h : isN (M 0) n
  · rw [if_pos h]
    unfold isN at h
    refine excS rfl 20 12 _ _ _ _ _ _ ?_
    simp (disch := omega) only [exB, Nat.reduceAdd, Nat.reduceSub, Nat.reduceMul, Nat.reduceLeDiff, Nat.reduceLT, Nat.reduceEqDiff, Nat.reduceBEq, Int.reduceAdd, Int.reduceSub, Int.reduceMul, Int.reduceNeg, Int.reduceToNat, Int.reduceLE, Int.reduceLT, Int.reduceEq, Int.reduceGE, Int.reduceGT, ↓reduceIte, reduceCtorEq, gm_pe, gm_pn, gc_put, gl_put, gs_put, cd_X4_wireAt, hR.f, iI_rt]
    refine ⟨fun h0 => ?_, fun h0 => ?_⟩
    · rw [if_pos ⟨h, h0⟩]
      generalize hwv : wireFrom (M 0) n 162 0 i = wv
      generalize hQ : (fun (r : Option Value) G'' => r = some (.int (iI wv)) ∧ G'' = G') = Q
      have key : ∀ (f : Nat) (c left : Int), c + f = 162 → 0 ≤ c → 0 ≤ left → left ≤ i → wireFrom (M 0) n f c left = wv → Wp X Y_X4_wireAt 3 Q 0 0 G' 20 [some (.ref o), some (.int (iI n)), some (.int (iI i)), some (.int (iI left)), some (.int (iI c))] [] := by
        intro f
        induction f with
        | zero =>
          intro c left h1 h2 h3 h4 h5
          have : c = 162 := by omega
          subst this
          refine exS rfl 6 _ _ _ _ _ _ ?_
          simp (disch := omega) only [exB, Nat.reduceAdd, Nat.reduceSub, Nat.reduceMul, Nat.reduceLeDiff, Nat.reduceLT, Nat.reduceEqDiff, Nat.reduceBEq, Int.reduceAdd, Int.reduceSub, Int.reduceMul, Int.reduceNeg, Int.reduceToNat, Int.reduceLE, Int.reduceLT, Int.reduceEq, Int.reduceGE, Int.reduceGT, ↓reduceIte, reduceCtorEq, gm_pe, gm_pn, gc_put, gl_put, gs_put, cd_X4_wireAt, hR.f, iI_rt]
          subst hQ
          rw [← h5]
          exact ⟨rfl, rfl⟩
        | succ f ih =>
          intro c left h1 h2 h3 h4 h5
          have b1 := hR.bA (z := 7 + c) (by omega) (by omega)
          refine excS rfl 20 40 _ _ _ _ _ _ ?_
          simp (disch := omega) only [exB, Nat.reduceAdd, Nat.reduceSub, Nat.reduceMul, Nat.reduceLeDiff, Nat.reduceLT, Nat.reduceEqDiff, Nat.reduceBEq, Int.reduceAdd, Int.reduceSub, Int.reduceMul, Int.reduceNeg, Int.reduceToNat, Int.reduceLE, Int.reduceLT, Int.reduceEq, Int.reduceGE, Int.reduceGT, ↓reduceIte, reduceCtorEq, gm_pe, gm_pn, gc_put, gl_put, gs_put, cd_X4_wireAt, hR.f, iI_rt]
          refine ⟨fun h => absurd h (by omega), fun _ => ?_⟩
          unfold wireFrom at h5
          refine ⟨by omega, by omega, fun q => ?_, fun q => ?_⟩
          · rw [if_neg q] at h5
            exact ih (c + 1) left (by omega) (by omega) h3 h4 h5
          · rw [if_pos (Classical.not_not.mp q)] at h5
            refine ⟨fun q2 => ?_, fun q2 => ?_⟩
            · rw [if_neg q2] at h5
              have := ih (c + 1) (left - 1) (by omega) (by omega) (by omega) (by omega) h5
              rw [Int.sub_eq_add_neg] at this
              exact this
            · rw [if_pos (Classical.not_not.mp q2)] at h5
              subst hQ
              rw [← h5]
              exact ⟨rfl, rfl⟩
      exact key 162 0 i (by decide) (by decide) h0 (by omega) hwv
    · rw [if_neg (fun q => h0 q.2)]
  · rw [if_neg h, if_neg (fun q => h q.1)]
    refine exS rfl 6 _ _ _ _ _ _ ?_
    simp (disch := omega) only [exB, Nat.reduceAdd, Nat.reduceSub, Nat.reduceMul, Nat.reduceLeDiff, Nat.reduceLT, Nat.reduceEqDiff, Nat.reduceBEq, Int.reduceAdd, Int.reduceSub, Int.reduceMul, Int.reduceNeg, Int.reduceToNat, Int.reduceLE, Int.reduceLT, Int.reduceEq, Int.reduceGE, Int.reduceGT, ↓reduceIte, reduceCtorEq, gm_pe, gm_pn, gc_put, gl_put, gs_put, cd_X4_wireAt, iI_rt]
end
