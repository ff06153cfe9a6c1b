/-! THE MODEL 16: heard, was, comesBack, hears -/
set_option maxRecDepth 100000
set_option maxHeartbeats 4000000
abbrev bef (N : Int → Int) (d c : Int) : Prop := clA N d 5 = 1 ∧ (lossN N c < lossN N d ∨ lossN N d = lossN N c ∧ d < c)
/-- how many appeals are heard ahead of a claim's -/
def ahdN (N : Int → Int) (c : Int) : Int := sumI (fun d => if bef N d c then 1 else 0) (N 6).toNat
def hF (N : Int → Int) (i : Int) : Int → Nat → Int
  | _, 0 => -1000004
  | c, f + 1 => if clA N c 5 = 1 ∧ ahdN N c = i then c else hF N i (c + 1) f
def heardN (N : Int → Int) (i : Int) : Int := hF N i 0 (N 6).toNat
theorem hF_b (N : Int → Int) (i : Int) : ∀ (f : Nat) (c : Int), hF N i c f = -1000004 ∨ (c ≤ hF N i c f ∧ hF N i c f < c + f)
  | 0, _ => Or.inl rfl
  | f + 1, c => by
    show (if clA N c 5 = 1 ∧ ahdN N c = i then c else hF N i (c + 1) f) = _ ∨ _ ≤ (if clA N c 5 = 1 ∧ ahdN N c = i then c else hF N i (c + 1) f) ∧ (if clA N c 5 = 1 ∧ ahdN N c = i then c else hF N i (c + 1) f) < _
    split
    · exact Or.inr ⟨Int.le_refl _, by omega⟩
    · rcases hF_b N i f (c + 1) with h | h
      · exact Or.inl h
      · exact Or.inr ⟨by omega, by omega⟩
/-- a claim's wire had a cell -/
abbrev wasB (N : Int → Int) (c z : Int) : Prop := clA N c (7 + z / 27) / 2 ^ (z % 27).toNat % 2 = 1
def canF (N : Int → Int) (c : Int) : Nat → Int
  | 0 => if jnd N (clA N c 0) then 0 else 1
  | k + 1 => if canF N c k = 1 ∧ (¬ wasB N c k ∨ N (7 + k) = 0) then 1 else 0
theorem canF_b {N : Int → Int} {c : Int} : ∀ k, bit (canF N c k)
  | 0 => by
    show bit (if jnd N (clA N c 0) then 0 else 1)
    split
    · exact Or.inl rfl
    · exact Or.inr rfl
  | k + 1 => by
    show bit (if canF N c k = 1 ∧ (¬ wasB N c k ∨ N (7 + k) = 0) then 1 else 0)
    split
    · exact Or.inr rfl
    · exact Or.inl rfl
def cbR (N : Int → Int) (c k : Int) : Int → Int := fun j => if (7 ≤ j ∧ j < 7 + k) ∧ wasB N c (j - 7) then 1 + clA N c 0 else N j
def combN (N : Int → Int) (c : Int) : Int → Int := if canF N c 162 = 1 then uN (cbR N c 162) (169 + 9 * clA N c 0 + 5) 1 else N
def hPay (N : Int → Int) (c : Int) : Int := if lossN N c - clA N c 4 ≤ 0 then 0 else if lossN N c - clA N c 4 < N (169 + 9 * clA N c 1 + 4) then lossN N c - clA N c 4 else N (169 + 9 * clA N c 1 + 4)
def hN2 (N : Int → Int) (c : Int) : Int → Int := uN (paysN N (clA N c 1) (clA N c 0) (hPay N c)) (223 + 13 * c + 4) (clA N c 4 + hPay N c)
def hN3 (N : Int → Int) (c : Int) : Int → Int := if hPay N c < lossN N c - clA N c 4 then combN (losN (hN2 N c) (clA N c 1)) c else hN2 N c
def hearC (N : Int → Int) (c : Int) : Int → Int := actN (uN (hN3 N c) (223 + 13 * c + 5) 2)
def hearZ (N : Int → Int) : Int := if heardN N 0 < 0 then -1000002 else hPay N (heardN N 0)
def hearN (N : Int → Int) : Int → Int := if heardN N 0 < 0 then N else hearC N (heardN N 0)
section
variable {X : gX} {G : gH} {o : Nat} {N : Int → Int} {L : List (Int → Int)} {T : List Int} {M : Nat → Int → Int} {V : Nat → Int} {l : List Int} {K : Int}
theorem m_heard {i : Int} (hM : MR G o M V) (hB : RowB K (M 0)) (hi : i32 i) : Tri X 3 Y_X4_heard [.ref o, .int (iI i)] 0 0 G (fun r G' => r = some (.int (iI (heardN (M 0) i))) ∧ G' = G) := by
  have h6 := hB.2.1.2
  refine Tri.of (by decide +kernel) (Nat.le_of_ble_eq_true rfl) ?_
  generalize hQ : (fun (r : Option Value) G' => r = some (.int (iI (heardN (M 0) i))) ∧ G' = G) = Q
  refine excS rfl 2 2 _ _ _ _ _ _ ?_
  simp (disch := omega) only [exB, Nat.reduceAdd, Nat.reduceSub, Nat.reduceMul, Nat.reduceLeDiff, Nat.reduceLT, Nat.reduceEqDiff, Nat.reduceBEq, Int.reduceAdd, Int.reduceSub, Int.reduceMul, Int.reduceNeg, Int.reduceToNat, Int.reduceLE, Int.reduceLT, Int.reduceEq, Int.reduceGE, Int.reduceGT, ↓reduceIte, reduceCtorEq, gm_pe, gm_pn, gc_put, gl_put, gs_put, cd_X4_heard]
  have key : ∀ c, 0 ≤ c → c ≤ M 0 6 → heardN (M 0) i = hF (M 0) i c (M 0 6 - c).toNat → Wp X Y_X4_heard 3 Q 0 0 G 2 [some (.ref o), some (.int (iI i)), some (.int (iI c)), none, none, none] [] := by
    refine up0 (W := fun c => heardN (M 0) i = hF (M 0) i c (M 0 6 - c).toNat → Wp X Y_X4_heard 3 Q 0 0 G 2 [some (.ref o), some (.int (iI i)), some (.int (iI c)), none, none, none] []) (hi := M 0 6) 0 ?_ ?_
    case refine_2 =>
      intro he
      refine excS rfl 2 12 _ _ _ _ _ _ ?_
      subst hQ
      simp (disch := omega) only [exB, Nat.reduceAdd, Nat.reduceSub, Nat.reduceMul, Nat.reduceLeDiff, Nat.reduceLT, Nat.reduceEqDiff, Nat.reduceBEq, Int.reduceAdd, Int.reduceSub, Int.reduceMul, Int.reduceNeg, Int.reduceToNat, Int.reduceLE, Int.reduceLT, Int.reduceEq, Int.reduceGE, Int.reduceGT, ↓reduceIte, reduceCtorEq, gm_pe, gm_pn, gc_put, gl_put, gs_put, cd_X4_heard, hM.f, iI_rt]
      refine ⟨fun _ => ?_, fun z => absurd (Int.le_refl _) z⟩
      rw [he, show (M 0 6 - M 0 6).toNat = 0 from by omega]
      rfl
    intro c c0 c1 ih he
    have l0 := loss_b hB c0 (by omega)
    have bC := hM.bA (z := 223 + 13 * c + 5) (by omega) (by omega)
    have eC : clA (M 0) c 5 = M 0 (223 + 13 * c + 5) := rfl
    rw [show (M 0 6 - c).toNat = (M 0 6 - (c + 1)).toNat + 1 from by omega] at he
    refine excS rfl 18 12 _ _ _ _ _ _ ?_
    simp (disch := omega) only [exB, Nat.reduceAdd, Nat.reduceSub, Nat.reduceMul, Nat.reduceLeDiff, Nat.reduceLT, Nat.reduceEqDiff, Nat.reduceBEq, Int.reduceAdd, Int.reduceSub, Int.reduceMul, Int.reduceNeg, Int.reduceToNat, Int.reduceLE, Int.reduceLT, Int.reduceEq, Int.reduceGE, Int.reduceGT, ↓reduceIte, reduceCtorEq, gm_pe, gm_pn, gc_put, gl_put, gs_put, cd_X4_heard, hM.f, iI_rt]
    refine ⟨fun h => absurd h (by omega), fun _ => ?_⟩
    refine Wp.wk' [some (.ref o), some (.int (iI i)), some (.int (iI c)), some (.int (iI (sumI (fun d => if bef (M 0) d c then 1 else 0) (0 : Int).toNat))), some (.int (iI 0)), none] ?_ (by simp [wkL, sumI])
    refine up0 (W := fun d => Wp X Y_X4_heard 3 Q 0 0 G 18 [some (.ref o), some (.int (iI i)), some (.int (iI c)), some (.int (iI (sumI (fun d => if bef (M 0) d c then 1 else 0) d.toNat))), some (.int (iI d)), none] []) (hi := M 0 6) 0 ?_ ?_ 0 (by decide) h6.1
    · intro d d0 d1 ihd
      rw [sumI_s d0] at ihd
      have l1 := loss_b hB d0 (by omega)
      have bD := hM.bA (z := 223 + 13 * d + 5) (by omega) (by omega)
      have eD : clA (M 0) d 5 = M 0 (223 + 13 * d + 5) := rfl
      have bs := sumI_b (f := fun d => if bef (M 0) d c then 1 else 0) (fun i => by split <;> decide) d.toNat
      generalize sumI (fun d => if bef (M 0) d c then 1 else 0) d.toNat = s at ihd bs ⊢
      -- behind 'first'
      have key2 : ∀ b, bit b → (b = 1 ↔ (lossN (M 0) c < lossN (M 0) d ∨ lossN (M 0) d = lossN (M 0) c ∧ d < c)) → Wp X Y_X4_heard 3 Q 0 0 G 69 [some (.ref o), some (.int (iI i)), some (.int (iI c)), some (.int (iI s)), some (.int (iI d)), none] [.int (iI b)] := by
        intro b hb hbi
        refine exS rfl 8 _ _ _ _ _ _ ?_
        simp (disch := omega) only [exB, Nat.reduceAdd, Nat.reduceSub, Nat.reduceMul, Nat.reduceLeDiff, Nat.reduceLT, Nat.reduceEqDiff, Nat.reduceBEq, Int.reduceAdd, Int.reduceSub, Int.reduceMul, Int.reduceNeg, Int.reduceToNat, Int.reduceLE, Int.reduceLT, Int.reduceEq, Int.reduceGE, Int.reduceGT, ↓reduceIte, reduceCtorEq, gm_pe, gm_pn, gc_put, gl_put, gs_put, cd_X4_heard, hM.f, iI_rt]
        refine gCall.of (m_claimAt hM (c := d) (w := 5) (by omega)) (by decide) (by first | omega | decide) (by first | omega | decide) ?_
        rintro r G' ⟨rfl, rfl⟩
        have nx : ∀ s', s' = (s + if bef (M 0) d c then 1 else 0) → ∀ u, Wp X Y_X4_heard 3 Q 0 0 G' 18 [some (.ref o), some (.int (iI i)), some (.int (iI c)), some (.int (iI s')), some (.int (iI (d + 1))), u] [] := fun s' h u => by rw [h]; exact ihd.wk' _ (by simp [wkL])
        refine excS rfl 18 20 _ _ _ _ _ _ ?_
        simp (disch := omega) only [exB, Nat.reduceAdd, Nat.reduceSub, Nat.reduceMul, Nat.reduceLeDiff, Nat.reduceLT, Nat.reduceEqDiff, Nat.reduceBEq, Int.reduceAdd, Int.reduceSub, Int.reduceMul, Int.reduceNeg, Int.reduceToNat, Int.reduceLE, Int.reduceLT, Int.reduceEq, Int.reduceGE, Int.reduceGT, ↓reduceIte, reduceCtorEq, gm_pe, gm_pn, gc_put, gl_put, gs_put, cd_X4_heard, hM.f, iI_rt]
        refine ⟨fun z => nx _ ?_ _, fun z => ⟨fun z2 => nx _ ?_ _, fun z2 => nx _ ?_ _⟩⟩
        · rw [if_neg (fun q => z q.1)]
        · rw [if_neg (fun q => by have := hbi.mpr q.2; omega)]
        · rw [if_pos ⟨Classical.not_not.mp z, hbi.mp (hb.resolve_left z2)⟩]
      refine excS rfl 69 12 _ _ _ _ _ _ ?_
      simp (disch := omega) only [exB, Nat.reduceAdd, Nat.reduceSub, Nat.reduceMul, Nat.reduceLeDiff, Nat.reduceLT, Nat.reduceEqDiff, Nat.reduceBEq, Int.reduceAdd, Int.reduceSub, Int.reduceMul, Int.reduceNeg, Int.reduceToNat, Int.reduceLE, Int.reduceLT, Int.reduceEq, Int.reduceGE, Int.reduceGT, ↓reduceIte, reduceCtorEq, gm_pe, gm_pn, gc_put, gl_put, gs_put, cd_X4_heard, hM.f, iI_rt]
      refine ⟨fun h => absurd h (by omega), fun _ => ?_⟩
      refine gCall.of (m_loss hM (c := d) (by omega)) (by decide) (by first | omega | decide) (by first | omega | decide) ?_
      rintro r G' ⟨rfl, rfl⟩
      refine excS rfl 69 12 _ _ _ _ _ _ ?_
      simp (disch := omega) only [exB, Nat.reduceAdd, Nat.reduceSub, Nat.reduceMul, Nat.reduceLeDiff, Nat.reduceLT, Nat.reduceEqDiff, Nat.reduceBEq, Int.reduceAdd, Int.reduceSub, Int.reduceMul, Int.reduceNeg, Int.reduceToNat, Int.reduceLE, Int.reduceLT, Int.reduceEq, Int.reduceGE, Int.reduceGT, ↓reduceIte, reduceCtorEq, gm_pe, gm_pn, gc_put, gl_put, gs_put, cd_X4_heard, hM.f, iI_rt]
      refine gCall.of (m_loss hM (c := c) (by omega)) (by decide) (by first | omega | decide) (by first | omega | decide) ?_
      rintro r G' ⟨rfl, rfl⟩
      refine excS rfl 69 12 _ _ _ _ _ _ ?_
      simp (disch := omega) only [exB, Nat.reduceAdd, Nat.reduceSub, Nat.reduceMul, Nat.reduceLeDiff, Nat.reduceLT, Nat.reduceEqDiff, Nat.reduceBEq, Int.reduceAdd, Int.reduceSub, Int.reduceMul, Int.reduceNeg, Int.reduceToNat, Int.reduceLE, Int.reduceLT, Int.reduceEq, Int.reduceGE, Int.reduceGT, ↓reduceIte, reduceCtorEq, gm_pe, gm_pn, gc_put, gl_put, gs_put, cd_X4_heard, hM.f, iI_rt]
      refine ⟨fun z => key2 1 (Or.inr rfl) (by omega), fun z => ?_⟩
      refine gCall.of (m_loss hM (c := d) (by omega)) (by decide) (by first | omega | decide) (by first | omega | decide) ?_
      rintro r G' ⟨rfl, rfl⟩
      refine excS rfl 69 12 _ _ _ _ _ _ ?_
      simp (disch := omega) only [exB, Nat.reduceAdd, Nat.reduceSub, Nat.reduceMul, Nat.reduceLeDiff, Nat.reduceLT, Nat.reduceEqDiff, Nat.reduceBEq, Int.reduceAdd, Int.reduceSub, Int.reduceMul, Int.reduceNeg, Int.reduceToNat, Int.reduceLE, Int.reduceLT, Int.reduceEq, Int.reduceGE, Int.reduceGT, ↓reduceIte, reduceCtorEq, gm_pe, gm_pn, gc_put, gl_put, gs_put, cd_X4_heard, hM.f, iI_rt]
      refine gCall.of (m_loss hM (c := c) (by omega)) (by decide) (by first | omega | decide) (by first | omega | decide) ?_
      rintro r G' ⟨rfl, rfl⟩
      refine excS rfl 69 12 _ _ _ _ _ _ ?_
      simp (disch := omega) only [exB, Nat.reduceAdd, Nat.reduceSub, Nat.reduceMul, Nat.reduceLeDiff, Nat.reduceLT, Nat.reduceEqDiff, Nat.reduceBEq, Int.reduceAdd, Int.reduceSub, Int.reduceMul, Int.reduceNeg, Int.reduceToNat, Int.reduceLE, Int.reduceLT, Int.reduceEq, Int.reduceGE, Int.reduceGT, ↓reduceIte, reduceCtorEq, gm_pe, gm_pn, gc_put, gl_put, gs_put, cd_X4_heard, hM.f, iI_rt]
      exact ⟨fun z => key2 0 (Or.inl rfl) (by omega), fun z => ⟨fun z2 => key2 0 (Or.inl rfl) (by omega), fun z2 => key2 1 (Or.inr rfl) (by omega)⟩⟩
    · have ab : 0 ≤ ahdN (M 0) c ∧ ahdN (M 0) c ≤ (M 0 6).toNat := sumI_b (f := fun d => if bef (M 0) d c then 1 else 0) (fun i => by split <;> decide) (M 0 6).toNat
      have ea : sumI (fun d => if bef (M 0) d c then 1 else 0) (M 0 6).toNat = ahdN (M 0) c := rfl
      rw [ea]
      refine excS rfl 4 12 _ _ _ _ _ _ ?_
      simp (disch := omega) only [exB, Nat.reduceAdd, Nat.reduceSub, Nat.reduceMul, Nat.reduceLeDiff, Nat.reduceLT, Nat.reduceEqDiff, Nat.reduceBEq, Int.reduceAdd, Int.reduceSub, Int.reduceMul, Int.reduceNeg, Int.reduceToNat, Int.reduceLE, Int.reduceLT, Int.reduceEq, Int.reduceGE, Int.reduceGT, ↓reduceIte, reduceCtorEq, gm_pe, gm_pn, gc_put, gl_put, gs_put, cd_X4_heard, hM.f, iI_rt]
      refine ⟨fun _ => ?_, fun z => absurd (Int.le_refl _) z⟩
      refine gCall.of (m_claimAt hM (c := c) (w := 5) (by omega)) (by decide) (by first | omega | decide) (by first | omega | decide) ?_
      rintro r G' ⟨rfl, rfl⟩
      have he2 : heardN (M 0) i = if clA (M 0) c 5 = 1 ∧ ahdN (M 0) c = i then c else hF (M 0) i (c + 1) (M 0 6 - (c + 1)).toNat := he
      have no : ¬ (clA (M 0) c 5 = 1 ∧ ahdN (M 0) c = i) → ∀ u v w, Wp X Y_X4_heard 3 Q 0 0 G' 118 [some (.ref o), some (.int (iI i)), some (.int (iI c)), u, v, w] [] := by
        intro h u v w
        rw [if_neg h] at he2
        refine excS rfl 2 4 _ _ _ _ _ _ ?_
        simp (disch := omega) only [exB, Nat.reduceAdd, Nat.reduceSub, Nat.reduceMul, Nat.reduceLeDiff, Nat.reduceLT, Nat.reduceEqDiff, Nat.reduceBEq, Int.reduceAdd, Int.reduceSub, Int.reduceMul, Int.reduceNeg, Int.reduceToNat, Int.reduceLE, Int.reduceLT, Int.reduceEq, Int.reduceGE, Int.reduceGT, ↓reduceIte, reduceCtorEq, gm_pe, gm_pn, gc_put, gl_put, gs_put, cd_X4_heard, iI_rt]
        exact (ih he2).wk' _ (by simp [wkL])
      refine excS rfl 118 12 _ _ _ _ _ _ ?_
      simp (disch := omega) only [exB, Nat.reduceAdd, Nat.reduceSub, Nat.reduceMul, Nat.reduceLeDiff, Nat.reduceLT, Nat.reduceEqDiff, Nat.reduceBEq, Int.reduceAdd, Int.reduceSub, Int.reduceMul, Int.reduceNeg, Int.reduceToNat, Int.reduceLE, Int.reduceLT, Int.reduceEq, Int.reduceGE, Int.reduceGT, ↓reduceIte, reduceCtorEq, gm_pe, gm_pn, gc_put, gl_put, gs_put, cd_X4_heard, hM.f, iI_rt]
      refine ⟨fun z => no (fun q => z q.1) _ _ _, fun z => ⟨fun z2 => no (fun q => z2 q.2) _ _ _, fun z2 => ?_⟩⟩
      rw [if_pos ⟨Classical.not_not.mp z, Classical.not_not.mp z2⟩] at he2
      subst hQ
      exact ⟨by rw [he2], rfl⟩
  refine Wp.wk' [some (.ref o), some (.int (iI i)), some (.int (iI 0)), none, none, none] ?_ (by simp [wkL])
  exact key 0 (by decide) h6.1 (by rw [Int.sub_zero]; rfl)
theorem m_was {c z : Int} (hM : MR G o M V) (hm : 0 ≤ clA (M 0) c (7 + z / 27) ∧ clA (M 0) c (7 + z / 27) < 134217728) (hc : 0 ≤ c ∧ c < 12) (hz : inC z) : Tri X 2 Y_X4_was [.ref o, .int (iI c), .int (iI z)] 0 0 G (fun r G' => r = some (.int (iI (if wasB (M 0) c z then 1 else 0))) ∧ G' = G) := by
  obtain ⟨z0, z1⟩ := hz
  refine Tri.of (by decide +kernel) (Nat.le_of_ble_eq_true rfl) ?_
  refine exS rfl 12 _ _ _ _ _ _ ?_
  simp (disch := omega) only [exB, Nat.reduceAdd, Nat.reduceSub, Nat.reduceMul, Nat.reduceLeDiff, Nat.reduceLT, Nat.reduceEqDiff, Nat.reduceBEq, Int.reduceAdd, Int.reduceSub, Int.reduceMul, Int.reduceNeg, Int.reduceToNat, Int.reduceLE, Int.reduceLT, Int.reduceEq, Int.reduceGE, Int.reduceGT, ↓reduceIte, reduceCtorEq, gm_pe, gm_pn, gc_put, gl_put, gs_put, cd_X4_was, hM.f, iI_rt, iI_div]
  refine gCall.of (m_claimAt hM (c := c) (w := 7 + z / 27) (by omega)) (by decide) (by first | omega | decide) (by first | omega | decide) ?_
  rintro r G' ⟨rfl, rfl⟩
  have e : clA (M 0) c (7 + z / 27) = M 0 (223 + 13 * c + (7 + z / 27)) := rfl
  have sh : iI (clA (M 0) c (7 + z / 27)) >>> (iI (z % 27) &&& 31) &&& iI 1 = iI (clA (M 0) c (7 + z / 27) / 2 ^ (z % 27).toNat % 2) := by
    rw [iI_and31 (by omega), iI_shr (by omega) (by omega), iI_and1 (Int.ediv_nonneg (by omega) (Int.le_of_lt (Int.pow_pos (by decide))))]
  have b2 : 0 ≤ clA (M 0) c (7 + z / 27) / 2 ^ (z % 27).toNat % 2 ∧ clA (M 0) c (7 + z / 27) / 2 ^ (z % 27).toNat % 2 < 2 := ⟨Int.emod_nonneg _ (by decide), Int.emod_lt_of_pos _ (by decide)⟩
  refine exS rfl 14 _ _ _ _ _ _ ?_
  simp (disch := omega) only [exB, Nat.reduceAdd, Nat.reduceSub, Nat.reduceMul, Nat.reduceLeDiff, Nat.reduceLT, Nat.reduceEqDiff, Nat.reduceBEq, Int.reduceAdd, Int.reduceSub, Int.reduceMul, Int.reduceNeg, Int.reduceToNat, Int.reduceLE, Int.reduceLT, Int.reduceEq, Int.reduceGE, Int.reduceGT, ↓reduceIte, reduceCtorEq, gm_pe, gm_pn, gc_put, gl_put, gs_put, cd_X4_was, hM.f, iI_rt, iI_rem, sh]
  refine ⟨fun q => ?_, fun q => ?_⟩
  · rw [if_neg q]
  · rw [if_pos (Classical.not_not.mp q)]
theorem m_comesBack {c : Int} (hM : MR G o M V) (hc : 0 ≤ c ∧ c < 12) (hcb : 0 ≤ clA (M 0) c 0 ∧ clA (M 0) c 0 ≤ 5) (hwm : ∀ z, 0 ≤ z → z < 162 → 0 ≤ clA (M 0) c (7 + z / 27) ∧ clA (M 0) c (7 + z / 27) < 134217728) (hj5 : 0 ≤ M 0 (169 + 9 * clA (M 0) c 0 + 5) ∧ M 0 (169 + 9 * clA (M 0) c 0 + 5) ≤ 1) : Tri X 3 Y_X4_comesBack [.ref o, .int (iI c)] 0 0 G (fun r G' => r = none ∧ MK G G' o ∧ MR G' o (setF M 0 (combN (M 0) c)) V) := by
  have en : clA (M 0) c 0 = M 0 (223 + 13 * c + 0) := rfl
  obtain ⟨G0, hG0⟩ : ∃ G0, G0 = G := ⟨G, rfl⟩
  refine Tri.of (by decide +kernel) (Nat.le_of_ble_eq_true rfl) ?_
  generalize hQ : (fun (r : Option Value) G' => r = none ∧ MK G G' o ∧ MR G' o (setF M 0 (combN (M 0) c)) V) = Q
  refine exS rfl 6 _ _ _ _ _ _ ?_
  simp (disch := omega) only [exB, Nat.reduceAdd, Nat.reduceSub, Nat.reduceMul, Nat.reduceLeDiff, Nat.reduceLT, Nat.reduceEqDiff, Nat.reduceBEq, Int.reduceAdd, Int.reduceSub, Int.reduceMul, Int.reduceNeg, Int.reduceToNat, Int.reduceLE, Int.reduceLT, Int.reduceEq, Int.reduceGE, Int.reduceGT, ↓reduceIte, reduceCtorEq, gm_pe, gm_pn, gc_put, gl_put, gs_put, cd_X4_comesBack, hM.f, iI_rt]
  refine gCall.of (m_claimAt hM (c := c) (w := 0) (by omega)) (by decide) (by first | omega | decide) (by first | omega | decide) ?_
  rintro r G' ⟨rfl, rfl⟩
  generalize hm : clA (M 0) c 0 = m at en hcb hj5
  have hmb : 0 ≤ m ∧ m < 6 := by omega
  refine exS rfl 6 _ _ _ _ _ _ ?_
  simp (disch := omega) only [exB, Nat.reduceAdd, Nat.reduceSub, Nat.reduceMul, Nat.reduceLeDiff, Nat.reduceLT, Nat.reduceEqDiff, Nat.reduceBEq, Int.reduceAdd, Int.reduceSub, Int.reduceMul, Int.reduceNeg, Int.reduceToNat, Int.reduceLE, Int.reduceLT, Int.reduceEq, Int.reduceGE, Int.reduceGT, ↓reduceIte, reduceCtorEq, gm_pe, gm_pn, gc_put, gl_put, gs_put, cd_X4_comesBack, hM.f, iI_rt]
  refine gCall.of (m_isJoined hM hmb) (by decide) (by first | omega | decide) (by first | omega | decide) ?_
  rintro r G' ⟨rfl, rfl⟩
  -- the test of the cells
  have test : ∀ z, 0 ≤ z → z ≤ 162 → Wp X Y_X4_comesBack 3 Q 0 0 G' 24 [some (.ref o), some (.int (iI c)), some (.int (iI m)), some (.int (iI (canF (M 0) c z.toNat))), some (.int (iI z))] [] := by
    refine up0 (W := fun z => Wp X Y_X4_comesBack 3 Q 0 0 G' 24 [some (.ref o), some (.int (iI c)), some (.int (iI m)), some (.int (iI (canF (M 0) c z.toNat))), some (.int (iI z))] []) (hi := 162) 0 ?_ ?_
    · intro z z0 z1 ih
      have e : canF (M 0) c (z + 1).toNat = if canF (M 0) c z.toNat = 1 ∧ (¬ wasB (M 0) c z ∨ M 0 (7 + z) = 0) then 1 else 0 := by
        rw [show (z + 1).toNat = z.toNat + 1 from by omega]
        show (if canF (M 0) c z.toNat = 1 ∧ (¬ wasB (M 0) c (z.toNat : Int) ∨ M 0 (7 + (z.toNat : Int)) = 0) then 1 else 0) = _
        rw [show ((z.toNat : Nat) : Int) = z from by omega]
      rw [e] at ih
      have cb := canF_b (N := M 0) (c := c) z.toNat
      have bz := hM.bA (z := 7 + z) (by omega) (by omega)
      generalize canF (M 0) c z.toNat = b at cb ih ⊢
      by_cases hb : b = 0
      · subst hb
        rw [if_neg (fun q => by omega)] at ih
        refine excS rfl 24 20 _ _ _ _ _ _ ?_
        simp (disch := omega) only [exB, Nat.reduceAdd, Nat.reduceSub, Nat.reduceMul, Nat.reduceLeDiff, Nat.reduceLT, Nat.reduceEqDiff, Nat.reduceBEq, Int.reduceAdd, Int.reduceSub, Int.reduceMul, Int.reduceNeg, Int.reduceToNat, Int.reduceLE, Int.reduceLT, Int.reduceEq, Int.reduceGE, Int.reduceGT, ↓reduceIte, reduceCtorEq, gm_pe, gm_pn, gc_put, gl_put, gs_put, cd_X4_comesBack, hM.f, iI_rt]
        exact ⟨fun q => absurd q (by omega), fun _ => ih⟩
      have hb1 : b = 1 := cb.resolve_left hb
      subst hb1
      refine excS rfl 24 20 _ _ _ _ _ _ ?_
      simp (disch := omega) only [exB, Nat.reduceAdd, Nat.reduceSub, Nat.reduceMul, Nat.reduceLeDiff, Nat.reduceLT, Nat.reduceEqDiff, Nat.reduceBEq, Int.reduceAdd, Int.reduceSub, Int.reduceMul, Int.reduceNeg, Int.reduceToNat, Int.reduceLE, Int.reduceLT, Int.reduceEq, Int.reduceGE, Int.reduceGT, ↓reduceIte, reduceCtorEq, gm_pe, gm_pn, gc_put, gl_put, gs_put, cd_X4_comesBack, hM.f, iI_rt]
      refine ⟨fun h => absurd h (by omega), fun _ => ?_⟩
      refine gCall.of (m_was hM (hwm z z0 z1) hc ⟨z0, z1⟩) (by decide) (by first | omega | decide) (by first | omega | decide) ?_
      rintro r G' ⟨rfl, rfl⟩
      by_cases hw : wasB (M 0) c z
      · rw [if_pos hw]
        refine excS rfl 24 20 _ _ _ _ _ _ ?_
        simp (disch := omega) only [exB, Nat.reduceAdd, Nat.reduceSub, Nat.reduceMul, Nat.reduceLeDiff, Nat.reduceLT, Nat.reduceEqDiff, Nat.reduceBEq, Int.reduceAdd, Int.reduceSub, Int.reduceMul, Int.reduceNeg, Int.reduceToNat, Int.reduceLE, Int.reduceLT, Int.reduceEq, Int.reduceGE, Int.reduceGT, ↓reduceIte, reduceCtorEq, gm_pe, gm_pn, gc_put, gl_put, gs_put, cd_X4_comesBack, hM.f, iI_rt]
        refine ⟨by omega, by omega, fun q => ?_, fun q => ?_⟩
        · rw [if_neg (fun p => p.2.elim (fun p => p hw) (fun p => q p))] at ih; exact ih
        · rw [if_pos ⟨rfl, Or.inr (Classical.not_not.mp q)⟩] at ih; exact ih
      · rw [if_neg hw]
        refine excS rfl 24 20 _ _ _ _ _ _ ?_
        simp (disch := omega) only [exB, Nat.reduceAdd, Nat.reduceSub, Nat.reduceMul, Nat.reduceLeDiff, Nat.reduceLT, Nat.reduceEqDiff, Nat.reduceBEq, Int.reduceAdd, Int.reduceSub, Int.reduceMul, Int.reduceNeg, Int.reduceToNat, Int.reduceLE, Int.reduceLT, Int.reduceEq, Int.reduceGE, Int.reduceGT, ↓reduceIte, reduceCtorEq, gm_pe, gm_pn, gc_put, gl_put, gs_put, cd_X4_comesBack, hM.f, iI_rt]
        rw [if_pos ⟨rfl, Or.inl hw⟩] at ih; exact ih
    · have cb := canF_b (N := M 0) (c := c) 162
      rw [show (162 : Int).toNat = 162 from rfl]
      by_cases hcan : canF (M 0) c 162 = 1
      · rw [hcan]
        -- the cells come back
        refine excS rfl 74 8 _ _ _ _ _ _ ?_
        simp (disch := omega) only [exB, Nat.reduceAdd, Nat.reduceSub, Nat.reduceMul, Nat.reduceLeDiff, Nat.reduceLT, Nat.reduceEqDiff, Nat.reduceBEq, Int.reduceAdd, Int.reduceSub, Int.reduceMul, Int.reduceNeg, Int.reduceToNat, Int.reduceLE, Int.reduceLT, Int.reduceEq, Int.reduceGE, Int.reduceGT, ↓reduceIte, reduceCtorEq, gm_pe, gm_pn, gc_put, gl_put, gs_put, cd_X4_comesBack, hM.f, iI_rt]
        subst hG0
        have e0 : cbR (M 0) c 0 = M 0 := by funext j; unfold cbR; rw [if_neg (by omega)]
        refine up1 (σ := gH) (W := fun z G' => Wp X Y_X4_comesBack 3 Q 0 0 G' 74 [some (.ref o), some (.int (iI c)), some (.int (iI m)), some (.int (iI 1)), some (.int (iI z))] []) (P := fun z G' => MR G' o (setF M 0 (cbR (M 0) c z)) V ∧ MK G0 G' o) (hi := 162) 0 ?_ ?_ 0 G0 (by decide) (by decide) ⟨by rw [e0, setF_id]; exact hM, MK.refl⟩
        · rintro z G3 z0 z1 ⟨hR, hk⟩ ih
          have zz : setF M 0 (cbR (M 0) c z) 0 = cbR (M 0) c z := setF_s
          have zc : cbR (M 0) c z (7 + z) = M 0 (7 + z) := by unfold cbR; rw [if_neg (by omega)]
          have zw : ∀ w, 0 ≤ w → w < 13 → clA (cbR (M 0) c z) c w = clA (M 0) c w := fun w w0 w1 => by unfold clA cbR; rw [if_neg (by omega)]
          have bz := hM.bA (z := 7 + z) (by omega) (by omega)
          have st : ∀ v, v = (if wasB (M 0) c z then 1 + m else M 0 (7 + z)) → Wp X Y_X4_comesBack 3 Q 0 0 (gput G3 (o + 1) (7 + z).toNat (.int (iI v))) 74 [some (.ref o), some (.int (iI c)), some (.int (iI m)), some (.int (iI 1)), some (.int (iI (z + 1)))] [] := by
            intro v hv
            have h4 := hR.putA 0 (z := 7 + z) (v := v) (by decide) (by omega) (by rw [hv]; split <;> omega)
            have e : uN (cbR (M 0) c z) (7 + z) v = cbR (M 0) c (z + 1) := by
              funext j
              unfold uN cbR
              by_cases h : j = 7 + z
              · subst h
                rw [if_pos rfl, hv, hm, show 7 + z - 7 = z from by omega]
                by_cases hw : wasB (M 0) c z
                · rw [if_pos hw, if_pos ⟨by omega, hw⟩]
                · rw [if_neg hw, if_neg (fun q => hw q.2)]
              · rw [if_neg h]
                by_cases h2 : (7 ≤ j ∧ j < 7 + z) ∧ wasB (M 0) c (j - 7)
                · rw [if_pos h2, if_pos ⟨by omega, h2.2⟩]
                · rw [if_neg h2, if_neg (fun q => h2 ⟨by omega, q.2⟩)]
            rw [uM_0s, e] at h4
            exact ih _ ⟨h4, hk.put (a := o + 1) (by omega)⟩
          refine excS rfl 74 20 _ _ _ _ _ _ ?_
          simp (disch := omega) only [exB, Nat.reduceAdd, Nat.reduceSub, Nat.reduceMul, Nat.reduceLeDiff, Nat.reduceLT, Nat.reduceEqDiff, Nat.reduceBEq, Int.reduceAdd, Int.reduceSub, Int.reduceMul, Int.reduceNeg, Int.reduceToNat, Int.reduceLE, Int.reduceLT, Int.reduceEq, Int.reduceGE, Int.reduceGT, ↓reduceIte, reduceCtorEq, gm_pe, gm_pn, gc_put, gl_put, gs_put, cd_X4_comesBack, hR.f, iI_rt]
          refine ⟨fun h => absurd h (by omega), fun _ => ?_⟩
          refine gCall.of (m_was hR (c := c) (z := z) (by rw [zz, zw _ (by omega) (by omega)]; exact hwm z z0 z1) hc ⟨z0, z1⟩) (by decide) (by first | omega | decide) (by first | omega | decide) ?_
          rintro r G' ⟨rfl, rfl⟩
          have ew : (if wasB (setF M 0 (cbR (M 0) c z) 0) c z then (1 : Int) else 0) = if wasB (M 0) c z then 1 else 0 := by
            rw [zz]
            show (if clA (cbR (M 0) c z) c (7 + z / 27) / 2 ^ (z % 27).toNat % 2 = 1 then (1 : Int) else 0) = _
            rw [zw _ (by omega) (by omega)]
          rw [ew]
          by_cases hw : wasB (M 0) c z
          · rw [if_pos hw] at st ⊢
            refine excS rfl 74 20 _ _ _ _ _ _ ?_
            simp (disch := omega) only [exB, Nat.reduceAdd, Nat.reduceSub, Nat.reduceMul, Nat.reduceLeDiff, Nat.reduceLT, Nat.reduceEqDiff, Nat.reduceBEq, Int.reduceAdd, Int.reduceSub, Int.reduceMul, Int.reduceNeg, Int.reduceToNat, Int.reduceLE, Int.reduceLT, Int.reduceEq, Int.reduceGE, Int.reduceGT, ↓reduceIte, reduceCtorEq, gm_pe, gm_pn, gc_put, gl_put, gs_put, cd_X4_comesBack, hR.f, iI_rt, zz, zc]
            exact ⟨by omega, by omega, st _ rfl⟩
          · rw [if_neg hw] at st ⊢
            refine excS rfl 74 20 _ _ _ _ _ _ ?_
            simp (disch := omega) only [exB, Nat.reduceAdd, Nat.reduceSub, Nat.reduceMul, Nat.reduceLeDiff, Nat.reduceLT, Nat.reduceEqDiff, Nat.reduceBEq, Int.reduceAdd, Int.reduceSub, Int.reduceMul, Int.reduceNeg, Int.reduceToNat, Int.reduceLE, Int.reduceLT, Int.reduceEq, Int.reduceGE, Int.reduceGT, ↓reduceIte, reduceCtorEq, gm_pe, gm_pn, gc_put, gl_put, gs_put, cd_X4_comesBack, hR.f, iI_rt, zz, zc]
            exact ⟨by omega, by omega, by omega, by omega, st _ rfl⟩
        · rintro G3 ⟨hR, hk⟩
          have h4 := hR.putA 0 (z := 169 + 9 * m + 5) (v := 1) (by decide) (by omega) (by decide)
          rw [uM_0s] at h4
          refine exS rfl 20 _ _ _ _ _ _ ?_
          simp (disch := omega) only [exB, Nat.reduceAdd, Nat.reduceSub, Nat.reduceMul, Nat.reduceLeDiff, Nat.reduceLT, Nat.reduceEqDiff, Nat.reduceBEq, Int.reduceAdd, Int.reduceSub, Int.reduceMul, Int.reduceNeg, Int.reduceToNat, Int.reduceLE, Int.reduceLT, Int.reduceEq, Int.reduceGE, Int.reduceGT, ↓reduceIte, reduceCtorEq, gm_pe, gm_pn, gc_put, gl_put, gs_put, cd_X4_comesBack, hR.f, iI_rt]
          refine ⟨by omega, by omega, ?_⟩
          subst hQ
          refine ⟨rfl, hk.put (a := o + 1) (by omega), ?_⟩
          unfold combN
          rw [if_pos hcan, hm]
          exact h4
      · have hc0 := cb.resolve_right hcan
        rw [hc0]
        refine excS rfl 24 30 _ _ _ _ _ _ ?_
        simp (disch := omega) only [exB, Nat.reduceAdd, Nat.reduceSub, Nat.reduceMul, Nat.reduceLeDiff, Nat.reduceLT, Nat.reduceEqDiff, Nat.reduceBEq, Int.reduceAdd, Int.reduceSub, Int.reduceMul, Int.reduceNeg, Int.reduceToNat, Int.reduceLE, Int.reduceLT, Int.reduceEq, Int.reduceGE, Int.reduceGT, ↓reduceIte, reduceCtorEq, gm_pe, gm_pn, gc_put, gl_put, gs_put, cd_X4_comesBack, hM.f, iI_rt]
        refine gCall.of (m_of hM (n := m) (w := 5) (by omega)) (by decide) (by first | omega | decide) (by first | omega | decide) ?_
        rintro r G' ⟨rfl, rfl⟩
        have h4 := hM.putA 0 (z := 169 + 9 * m + 5) (v := M 0 (169 + 9 * m + 5)) (by decide) (by omega) (by omega)
        rw [uM_00] at h4
        have e : uN (M 0) (169 + 9 * m + 5) (M 0 (169 + 9 * m + 5)) = M 0 := by
          funext j; unfold uN; split
          · next q => rw [q]
          · rfl
        rw [e] at h4
        refine exS rfl 8 _ _ _ _ _ _ ?_
        simp (disch := omega) only [exB, Nat.reduceAdd, Nat.reduceSub, Nat.reduceMul, Nat.reduceLeDiff, Nat.reduceLT, Nat.reduceEqDiff, Nat.reduceBEq, Int.reduceAdd, Int.reduceSub, Int.reduceMul, Int.reduceNeg, Int.reduceToNat, Int.reduceLE, Int.reduceLT, Int.reduceEq, Int.reduceGE, Int.reduceGT, ↓reduceIte, reduceCtorEq, gm_pe, gm_pn, gc_put, gl_put, gs_put, cd_X4_comesBack, hM.f, iI_rt]
        refine ⟨by omega, by omega, ?_⟩
        subst hQ
        refine ⟨rfl, MK.refl.put (a := o + 1) (by omega), ?_⟩
        unfold combN
        rw [if_neg hcan]
        exact h4
  have t0 := test 0 (by decide) (by decide)
  have et : canF (M 0) c (0 : Int).toNat = if jnd (M 0) m then 0 else 1 := by rw [← hm]; rfl
  rw [et] at t0
  by_cases hj : jnd (M 0) m
  · rw [if_pos hj] at t0 ⊢
    refine excS rfl 24 12 _ _ _ _ _ _ ?_
    simp (disch := omega) only [exB, Nat.reduceAdd, Nat.reduceSub, Nat.reduceMul, Nat.reduceLeDiff, Nat.reduceLT, Nat.reduceEqDiff, Nat.reduceBEq, Int.reduceAdd, Int.reduceSub, Int.reduceMul, Int.reduceNeg, Int.reduceToNat, Int.reduceLE, Int.reduceLT, Int.reduceEq, Int.reduceGE, Int.reduceGT, ↓reduceIte, reduceCtorEq, gm_pe, gm_pn, gc_put, gl_put, gs_put, cd_X4_comesBack, hM.f, iI_rt]
    exact t0
  · rw [if_neg hj] at t0 ⊢
    refine excS rfl 24 12 _ _ _ _ _ _ ?_
    simp (disch := omega) only [exB, Nat.reduceAdd, Nat.reduceSub, Nat.reduceMul, Nat.reduceLeDiff, Nat.reduceLT, Nat.reduceEqDiff, Nat.reduceBEq, Int.reduceAdd, Int.reduceSub, Int.reduceMul, Int.reduceNeg, Int.reduceToNat, Int.reduceLE, Int.reduceLT, Int.reduceEq, Int.reduceGE, Int.reduceGT, ↓reduceIte, reduceCtorEq, gm_pe, gm_pn, gc_put, gl_put, gs_put, cd_X4_comesBack, hM.f, iI_rt]
    exact t0
theorem m_hears (hM : MR G o M V) (hB : RowB K (M 0)) : Tri X 4 Y_X4_hears [.ref o] 0 0 G (APost G o M V (hearZ (M 0)) (hearN (M 0))) := by
  have h6 := hB.2.1.2
  have hK := hB.1
  have b4 := hB.2.2.2.1
  have ee : ∀ f g, setF (setF M 0 f) 0 g = setF M 0 g := fun f g => by funext x; unfold setF; split <;> rfl
  refine Tri.of (by decide +kernel) (Nat.le_of_ble_eq_true rfl) ?_
  generalize hQ : APost G o M V (hearZ (M 0)) (hearN (M 0)) = Q
  refine exS rfl 6 _ _ _ _ _ _ ?_
  simp (disch := omega) only [exB, Nat.reduceAdd, Nat.reduceSub, Nat.reduceMul, Nat.reduceLeDiff, Nat.reduceLT, Nat.reduceEqDiff, Nat.reduceBEq, Int.reduceAdd, Int.reduceSub, Int.reduceMul, Int.reduceNeg, Int.reduceToNat, Int.reduceLE, Int.reduceLT, Int.reduceEq, Int.reduceGE, Int.reduceGT, ↓reduceIte, reduceCtorEq, gm_pe, gm_pn, gc_put, gl_put, gs_put, cd_X4_hears, hM.f]
  refine gCall.of (m_heard hM hB (i := 0) (by decide)) (by decide) (by first | omega | decide) (by first | omega | decide) ?_
  rintro r G' ⟨rfl, rfl⟩
  have hh := hF_b (M 0) 0 (M 0 6).toNat 0
  have hz : hF (M 0) 0 0 (M 0 6).toNat = heardN (M 0) 0 := rfl
  rw [hz] at hh
  unfold hearZ hearN at hQ
  generalize heardN (M 0) 0 = c at hh hQ ⊢
  by_cases h : c < 0
  · rw [if_pos h, if_pos h] at hQ
    refine exS rfl 6 _ _ _ _ _ _ ?_
    simp (disch := omega) only [exB, Nat.reduceAdd, Nat.reduceSub, Nat.reduceMul, Nat.reduceLeDiff, Nat.reduceLT, Nat.reduceEqDiff, Nat.reduceBEq, Int.reduceAdd, Int.reduceSub, Int.reduceMul, Int.reduceNeg, Int.reduceToNat, Int.reduceLE, Int.reduceLT, Int.reduceEq, Int.reduceGE, Int.reduceGT, ↓reduceIte, reduceCtorEq, gm_pe, gm_pn, gc_put, gl_put, gs_put, cd_X4_hears, hM.f, iI_rt]
    subst hQ
    exact ⟨fun z => absurd z (by omega), fun _ => AP.same hM⟩
  rw [if_neg h, if_neg h] at hQ
  have hc : 0 ≤ c ∧ c < 12 := by omega
  obtain ⟨q0, q1, q2, q3, q4, q5, q6, q7⟩ := hB.2.2.2.2.2.2 c hc.1 hc.2
  have c0 : 0 ≤ clA (M 0) c 0 ∧ clA (M 0) c 0 ≤ 5 := q0
  have c1 : 0 ≤ clA (M 0) c 1 ∧ clA (M 0) c 1 ≤ 5 := q1
  have c4 : 0 ≤ clA (M 0) c 4 ∧ clA (M 0) c 4 ≤ 10000 := q4
  have lb := loss_b hB hc.1 hc.2
  have nb := hB.2.2.2.2.2.1 (clA (M 0) c 1) c1.1 (by omega)
  have np := nb.2.2.2.2.1
  refine exS rfl 12 _ _ _ _ _ _ ?_
  simp (disch := omega) only [exB, Nat.reduceAdd, Nat.reduceSub, Nat.reduceMul, Nat.reduceLeDiff, Nat.reduceLT, Nat.reduceEqDiff, Nat.reduceBEq, Int.reduceAdd, Int.reduceSub, Int.reduceMul, Int.reduceNeg, Int.reduceToNat, Int.reduceLE, Int.reduceLT, Int.reduceEq, Int.reduceGE, Int.reduceGT, ↓reduceIte, reduceCtorEq, gm_pe, gm_pn, gc_put, gl_put, gs_put, cd_X4_hears, hM.f, iI_rt]
  refine ⟨fun _ => ?_, fun z => absurd hc.1 z⟩
  refine gCall.of (m_claimAt hM (c := c) (w := 1) (by omega)) (by decide) (by first | omega | decide) (by first | omega | decide) ?_
  rintro r G' ⟨rfl, rfl⟩
  refine exS rfl 12 _ _ _ _ _ _ ?_
  simp (disch := omega) only [exB, Nat.reduceAdd, Nat.reduceSub, Nat.reduceMul, Nat.reduceLeDiff, Nat.reduceLT, Nat.reduceEqDiff, Nat.reduceBEq, Int.reduceAdd, Int.reduceSub, Int.reduceMul, Int.reduceNeg, Int.reduceToNat, Int.reduceLE, Int.reduceLT, Int.reduceEq, Int.reduceGE, Int.reduceGT, ↓reduceIte, reduceCtorEq, gm_pe, gm_pn, gc_put, gl_put, gs_put, cd_X4_hears, hM.f, iI_rt]
  refine gCall.of (m_loss hM (c := c) hc) (by decide) (by first | omega | decide) (by first | omega | decide) ?_
  rintro r G' ⟨rfl, rfl⟩
  refine exS rfl 12 _ _ _ _ _ _ ?_
  simp (disch := omega) only [exB, Nat.reduceAdd, Nat.reduceSub, Nat.reduceMul, Nat.reduceLeDiff, Nat.reduceLT, Nat.reduceEqDiff, Nat.reduceBEq, Int.reduceAdd, Int.reduceSub, Int.reduceMul, Int.reduceNeg, Int.reduceToNat, Int.reduceLE, Int.reduceLT, Int.reduceEq, Int.reduceGE, Int.reduceGT, ↓reduceIte, reduceCtorEq, gm_pe, gm_pn, gc_put, gl_put, gs_put, cd_X4_hears, hM.f, iI_rt]
  refine gCall.of (m_claimAt hM (c := c) (w := 4) (by omega)) (by decide) (by first | omega | decide) (by first | omega | decide) ?_
  rintro r G' ⟨rfl, rfl⟩
  have hpb : 0 ≤ hPay (M 0) c ∧ hPay (M 0) c ≤ 9720 := by
    unfold hPay
    split
    · omega
    · split <;> omega
  -- behind the amount
  have key : ∀ p, p = hPay (M 0) c → Wp X Y_X4_hears 4 Q 0 0 G' 61 [some (.ref o), some (.int (iI c)), some (.int (iI (clA (M 0) c 1))), some (.int (iI (lossN (M 0) c - clA (M 0) c 4))), none] [.int (iI p)] := by
    intro p hp
    rw [← hp] at hpb
    refine exS rfl 12 _ _ _ _ _ _ ?_
    simp (disch := omega) only [exB, Nat.reduceAdd, Nat.reduceSub, Nat.reduceMul, Nat.reduceLeDiff, Nat.reduceLT, Nat.reduceEqDiff, Nat.reduceBEq, Int.reduceAdd, Int.reduceSub, Int.reduceMul, Int.reduceNeg, Int.reduceToNat, Int.reduceLE, Int.reduceLT, Int.reduceEq, Int.reduceGE, Int.reduceGT, ↓reduceIte, reduceCtorEq, gm_pe, gm_pn, gc_put, gl_put, gs_put, cd_X4_hears, hM.f, iI_rt]
    refine gCall.of (m_claimAt hM (c := c) (w := 0) (by omega)) (by decide) (by first | omega | decide) (by first | omega | decide) ?_
    rintro r G' ⟨rfl, rfl⟩
    refine exS rfl 12 _ _ _ _ _ _ ?_
    simp (disch := omega) only [exB, Nat.reduceAdd, Nat.reduceSub, Nat.reduceMul, Nat.reduceLeDiff, Nat.reduceLT, Nat.reduceEqDiff, Nat.reduceBEq, Int.reduceAdd, Int.reduceSub, Int.reduceMul, Int.reduceNeg, Int.reduceToNat, Int.reduceLE, Int.reduceLT, Int.reduceEq, Int.reduceGE, Int.reduceGT, ↓reduceIte, reduceCtorEq, gm_pe, gm_pn, gc_put, gl_put, gs_put, cd_X4_hears, hM.f, iI_rt]
    refine gCall.of (m_pays hM (a := clA (M 0) c 1) (b := clA (M 0) c 0) (c := p) (by omega) (by omega)) (by decide) (by first | omega | decide) (by first | omega | decide) ?_
    rintro r G2 ⟨rfl, hk2, hR2⟩
    have off : ∀ j, j < 169 ∨ 223 ≤ j → paysN (M 0) (clA (M 0) c 1) (clA (M 0) c 0) p j = M 0 j := fun j hj => paysN_off (fun n hn => by omega)
    have z0 : setF M 0 (paysN (M 0) (clA (M 0) c 1) (clA (M 0) c 0) p) 0 = paysN (M 0) (clA (M 0) c 1) (clA (M 0) c 0) p := setF_s
    have o4 : paysN (M 0) (clA (M 0) c 1) (clA (M 0) c 0) p (223 + 13 * c + 4) = clA (M 0) c 4 := off _ (by omega)
    have h3 := hR2.putA 0 (z := 223 + 13 * c + 4) (v := clA (M 0) c 4 + p) (by decide) (by omega) (by omega)
    have eN2 : uN (paysN (M 0) (clA (M 0) c 1) (clA (M 0) c 0) p) (223 + 13 * c + 4) (clA (M 0) c 4 + p) = hN2 (M 0) c := by unfold hN2; rw [hp]
    rw [uM_0s, eN2] at h3
    change MR (gput G2 (o + 1) _ _) o _ _ at h3
    have hk3 := hk2.put (a := o + 1) (j := (223 + 13 * c + 4).toNat) (v := .int (iI (clA (M 0) c 4 + p))) (by omega)
    have off2 : ∀ j, (j < 169 ∨ 223 ≤ j) → j ≠ 223 + 13 * c + 4 → hN2 (M 0) c j = M 0 j := by
      intro j hj h4
      rw [← eN2]; unfold uN; rw [if_neg h4]; exact off j hj
    have off3 : ∀ m, 0 ≤ m → m < 6 → hN2 (M 0) c (169 + 9 * m + 5) = M 0 (169 + 9 * m + 5) := by
      intro m m0 m1
      rw [← eN2]; unfold uN; rw [if_neg (by omega)]
      exact paysN_off (fun n hn => by omega)
    -- the end
    have fin : ∀ G3 u, MR G3 o (setF M 0 (hN3 (M 0) c)) V → MK G' G3 o → hN3 (M 0) c 4 = M 0 4 → Wp X Y_X4_hears 4 Q 0 0 G3 112 [some (.ref o), some (.int (iI c)), some (.int (iI (clA (M 0) c 1))), u, some (.int (iI p))] [] := by
      intro G3 u hR hk e4
      have h5 := (hR.putA 0 (z := 223 + 13 * c + 5) (v := 2) (by decide) (by omega) (by decide)).putA 0 (z := 4) (v := M 0 4 + 1) (by decide) (by decide) (by omega)
      rw [uM_0s, uM_0s] at h5
      have zz : setF M 0 (hN3 (M 0) c) 0 = hN3 (M 0) c := setF_s
      refine exS rfl 40 _ _ _ _ _ _ ?_
      simp (disch := omega) only [exB, Nat.reduceAdd, Nat.reduceSub, Nat.reduceMul, Nat.reduceLeDiff, Nat.reduceLT, Nat.reduceEqDiff, Nat.reduceBEq, Int.reduceAdd, Int.reduceSub, Int.reduceMul, Int.reduceNeg, Int.reduceToNat, Int.reduceLE, Int.reduceLT, Int.reduceEq, Int.reduceGE, Int.reduceGT, ↓reduceIte, reduceCtorEq, gm_pe, gm_pn, gc_put, gl_put, gs_put, cd_X4_hears, hR.f, iI_rt, zz, e4]
      refine ⟨by omega, by omega, ?_⟩
      subst hQ
      have eC : uN (uN (hN3 (M 0) c) (223 + 13 * c + 5) 2) 4 (M 0 4 + 1) = hearC (M 0) c := by
        unfold hearC actN
        rw [show uN (hN3 (M 0) c) (223 + 13 * c + 5) 2 4 = M 0 4 from by unfold uN; rw [if_neg (by omega)]; exact e4]
      rw [eC] at h5
      refine ⟨by rw [hp], (hk.put (a := o + 1) (by omega)).put (a := o + 1) (by omega), _, _, h5, by rw [setF_s], fun f a b c d => by rw [setF_n a], fun _ _ _ _ => rfl⟩
    refine excS rfl 112 20 _ _ _ _ _ _ ?_
    simp (disch := omega) only [exB, Nat.reduceAdd, Nat.reduceSub, Nat.reduceMul, Nat.reduceLeDiff, Nat.reduceLT, Nat.reduceEqDiff, Nat.reduceBEq, Int.reduceAdd, Int.reduceSub, Int.reduceMul, Int.reduceNeg, Int.reduceToNat, Int.reduceLE, Int.reduceLT, Int.reduceEq, Int.reduceGE, Int.reduceGT, ↓reduceIte, reduceCtorEq, gm_pe, gm_pn, gc_put, gl_put, gs_put, cd_X4_hears, hR2.f, iI_rt, z0, o4]
    refine ⟨by omega, by omega, by omega, by omega, fun z => ?_, fun z => ?_⟩
    · have e3 : hN3 (M 0) c = hN2 (M 0) c := by unfold hN3; rw [if_neg (by omega)]
      refine fin _ _ (by rw [e3]; exact h3) hk3 (by rw [e3]; exact off2 4 (by omega) (by omega))
    · have e3 : hN3 (M 0) c = combN (losN (hN2 (M 0) c) (clA (M 0) c 1)) c := by unfold hN3; rw [if_pos (by omega)]
      generalize gput G2 (o + 1) (223 + 13 * c + 4).toNat (.int (iI (clA (M 0) c 4 + p))) = G3 at h3 hk3 ⊢
      refine gCall.of (m_loses h3 (m := clA (M 0) c 1) (by omega)) (by decide) (by first | omega | decide) (by first | omega | decide) ?_
      rintro r G4 ⟨rfl, hk4, hR4⟩
      rw [setF_s, ee] at hR4
      have lo : ∀ j, 223 ≤ j → j ≠ 223 + 13 * c + 4 → losN (hN2 (M 0) c) (clA (M 0) c 1) j = M 0 j := fun j hj h4 => by
        rw [losN_off (by omega) (by omega)]; exact off2 j (by omega) h4
      have lc : ∀ w, 0 ≤ w → w ≠ 4 → clA (losN (hN2 (M 0) c) (clA (M 0) c 1)) c w = clA (M 0) c w := fun w w0 w4 => lo _ (by omega) (by omega)
      have zz : setF M 0 (losN (hN2 (M 0) c) (clA (M 0) c 1)) 0 = losN (hN2 (M 0) c) (clA (M 0) c 1) := setF_s
      have n0 := (hB.2.2.2.2.2.1 (clA (M 0) c 0) c0.1 (by omega)).2.2.2.2.2
      refine exS rfl 8 _ _ _ _ _ _ ?_
      simp (disch := omega) only [exB, Nat.reduceAdd, Nat.reduceSub, Nat.reduceMul, Nat.reduceLeDiff, Nat.reduceLT, Nat.reduceEqDiff, Nat.reduceBEq, Int.reduceAdd, Int.reduceSub, Int.reduceMul, Int.reduceNeg, Int.reduceToNat, Int.reduceLE, Int.reduceLT, Int.reduceEq, Int.reduceGE, Int.reduceGT, ↓reduceIte, reduceCtorEq, gm_pe, gm_pn, gc_put, gl_put, gs_put, cd_X4_hears, hR4.f, iI_rt]
      refine gCall.of (m_comesBack hR4 (c := c) hc (by rw [zz, lc 0 (by decide) (by decide)]; exact c0) (fun z z0 z1 => by rw [zz, lc _ (by omega) (by omega)]; exact q7 (z / 27) (by omega) (by omega)) (by
        rw [zz, lc 0 (by decide) (by decide)]
        unfold losN uN
        split
        · decide
        · unfold losR
          rw [if_neg (by omega), off3 _ c0.1 (by omega)]
          exact n0)) (by decide) (by first | omega | decide) (by first | omega | decide) ?_
      rintro r G5 ⟨rfl, hk5, hR5⟩
      rw [zz, ee, ← e3] at hR5
      refine fin G5 _ hR5 ((hk3.trans hk4).trans hk5) ?_
      rw [e3]
      have l4 : losN (hN2 (M 0) c) (clA (M 0) c 1) 4 = M 0 4 := by rw [losN_off (by omega) (by omega)]; exact off2 4 (by omega) (by omega)
      unfold combN
      split
      · unfold uN cbR
        rw [lc 0 (by decide) (by decide), if_neg (by omega), if_neg (by omega), l4]
      · exact l4
  refine excS rfl 61 12 _ _ _ _ _ _ ?_
  simp (disch := omega) only [exB, Nat.reduceAdd, Nat.reduceSub, Nat.reduceMul, Nat.reduceLeDiff, Nat.reduceLT, Nat.reduceEqDiff, Nat.reduceBEq, Int.reduceAdd, Int.reduceSub, Int.reduceMul, Int.reduceNeg, Int.reduceToNat, Int.reduceLE, Int.reduceLT, Int.reduceEq, Int.reduceGE, Int.reduceGT, ↓reduceIte, reduceCtorEq, gm_pe, gm_pn, gc_put, gl_put, gs_put, cd_X4_hears, hM.f, iI_rt]
  refine ⟨fun z => ?_, fun z => key 0 (by unfold hPay; rw [if_pos (by omega)])⟩
  refine gCall.of (m_of hM (n := clA (M 0) c 1) (w := 4) (by omega)) (by decide) (by first | omega | decide) (by first | omega | decide) ?_
  rintro r G' ⟨rfl, rfl⟩
  refine excS rfl 61 12 _ _ _ _ _ _ ?_
  simp (disch := omega) only [exB, Nat.reduceAdd, Nat.reduceSub, Nat.reduceMul, Nat.reduceLeDiff, Nat.reduceLT, Nat.reduceEqDiff, Nat.reduceBEq, Int.reduceAdd, Int.reduceSub, Int.reduceMul, Int.reduceNeg, Int.reduceToNat, Int.reduceLE, Int.reduceLT, Int.reduceEq, Int.reduceGE, Int.reduceGT, ↓reduceIte, reduceCtorEq, gm_pe, gm_pn, gc_put, gl_put, gs_put, cd_X4_hears, hM.f, iI_rt]
  refine ⟨fun z2 => ?_, fun z2 => key _ (by unfold hPay; rw [if_neg (by omega), if_pos (by omega)])⟩
  refine gCall.of (m_of hM (n := clA (M 0) c 1) (w := 4) (by omega)) (by decide) (by first | omega | decide) (by first | omega | decide) ?_
  rintro r G' ⟨rfl, rfl⟩
  exact key _ (by unfold hPay; rw [if_neg (by omega), if_neg (by omega)])
end
