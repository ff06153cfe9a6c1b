/-! THE MODEL 21: an order of a text -/
set_option maxRecDepth 100000
set_option maxHeartbeats 4000000
/-- the letter at a place of a text; 0: there is none -/
def chr (T : List Int) (p : Int) : Int := T[p.toNat]?.getD 0
abbrev dgt (T : List Int) (p : Int) : Prop := 48 ≤ chr T p ∧ chr T p ≤ 57
/-- a number of one or two digits, and where it ends -/
def numV (T : List Int) (p : Int) : Int := if dgt T p then (if dgt T (p + 1) then 10 * (chr T p - 48) + (chr T (p + 1) - 48) else chr T p - 48) else -1
def numP (T : List Int) (p : Int) : Int := if dgt T p then (if dgt T (p + 1) then p + 2 else p + 1) else p
def ordV (T : List Int) (p : Int) : Int := if chr T p = 104 then 0 else numV T (p + 1)
def ordP (T : List Int) (p : Int) : Int := if chr T p = 104 then p + 1 else numP T (p + 1)
abbrev isLet (c : Int) : Prop := c = 108 ∨ c = 100 ∨ c = 114 ∨ c = 97 ∨ c = 104 ∨ c = 119
abbrev frm (T : List Int) (p : Int) : Prop := 0 ≤ ordV T p ∧ chr T (ordP T p) = 59 ∧ isLet (chr T p)
abbrev thereO (N : Int → Int) (c v : Int) : Prop := if c = 97 then isC N v else c = 104 ∨ c = 119 ∨ isN N v
def itsZ (N : Int → Int) (c v : Int) (R : Option (List Int × Int)) : Int := if c = 108 then layZ N v R else if c = 100 then digZ N v R else if c = 114 then ripZ N v else if c = 97 then appZ N v else if c = 104 then hearZ N else passZ N v
def itsN (N : Int → Int) (c v : Int) (R : Option (List Int × Int)) : Int → Int := if c = 108 then layN N v R else if c = 100 then digN N v R else if c = 114 then ripN N v else if c = 97 then appN N v else if c = 104 then hearN N else passN N v
/-- why an order is not possible; 0: it is -/
def ordE (T : List Int) (N : Int → Int) (p : Int) (R : Option (List Int × Int)) : Int := if frm T p then (if thereO N (chr T p) (ordV T p) then (if itsZ N (chr T p) (ordV T p) R < 0 then 3 else 0) else 2) else 1
def ordN (T : List Int) (N : Int → Int) (p : Int) (R : Option (List Int × Int)) : Int → Int := if frm T p ∧ thereO N (chr T p) (ordV T p) then itsN N (chr T p) (ordV T p) R else N
/-- the route that an order needs -/
abbrev RtO (N : Int → Int) (c v : Int) (R : Option (List Int × Int)) : Prop := (c = 108 ∨ c = 100) → isN N v → ¬ jnd N v → RouteR N v (if c = 100 then 1 else 0) R
abbrev txtB (T : List Int) : Prop := T.length ≤ 60 ∧ ∀ c ∈ T, 0 ≤ c ∧ c ≤ 126
theorem chr_b {T : List Int} (h : txtB T) (p : Int) : 0 ≤ chr T p ∧ chr T p ≤ 126 := by
  unfold chr
  by_cases hp : p.toNat < T.length
  · rw [List.getElem?_eq_getElem hp]
    exact h.2 _ (List.getElem_mem _)
  · rw [List.getElem?_eq_none (by omega)]
    decide
theorem numV_b {T : List Int} (p : Int) : -1 ≤ numV T p ∧ numV T p ≤ 99 := by
  unfold numV
  split
  · split <;> omega
  · decide
theorem ordV_b {T : List Int} (p : Int) : -1 ≤ ordV T p ∧ ordV T p ≤ 99 := by
  have := numV_b (T := T) (p + 1)
  unfold ordV
  split <;> omega
theorem ordP_b {T : List Int} (p : Int) : p + 1 ≤ ordP T p ∧ ordP T p ≤ p + 3 := by
  unfold ordP numP
  split
  · omega
  · split
    · split <;> omega
    · omega
section
variable {X : gX} {G : gH} {o : Nat} {N : Int → Int} {L : List (Int → Int)} {T : List Int} {M : Nat → Int → Int} {V : Nat → Int} {l : List Int} {K : Int}
theorem m_here {p : Int} (hM : MR G o M V) (hT : TextOK M V T) (hp : V 15 = p) (h0 : 0 ≤ p) : Tri X 1 Y_X4_here [.ref o] 0 0 G (fun r G' => r = some (.int (iI (chr T p))) ∧ G' = G) := by
  have b15 := hM.bV 15 (by decide)
  obtain ⟨t1, t2, t3⟩ := hT
  refine Tri.of (by decide +kernel) (Nat.le_of_ble_eq_true rfl) ?_
  by_cases h : p < T.length
  · have hx := t3 p.toNat (T[p.toNat]'(by omega)) (List.getElem?_eq_getElem _)
    rw [show ((p.toNat : Nat) : Int) = p from by omega] at hx
    refine exS rfl 20 _ _ _ _ _ _ ?_
    simp (disch := omega) only [exB, Nat.reduceAdd, Nat.reduceSub, Nat.reduceMul, Nat.reduceLeDiff, Nat.reduceLT, Nat.reduceEqDiff, Nat.reduceBEq, Int.reduceAdd, Int.reduceSub, Int.reduceMul, Int.reduceNeg, Int.reduceToNat, Int.reduceLE, Int.reduceLT, Int.reduceEq, Int.reduceGE, Int.reduceGT, ↓reduceIte, reduceCtorEq, gm_pe, gm_pn, gc_put, gl_put, gs_put, cd_X4_here, hM.f, iI_rt, hp, t1]
    refine ⟨fun q => absurd q (by omega), fun _ => ⟨h0, by omega, ?_⟩⟩
    unfold chr
    rw [List.getElem?_eq_getElem (by omega), hx]
    rfl
  · refine exS rfl 20 _ _ _ _ _ _ ?_
    simp (disch := omega) only [exB, Nat.reduceAdd, Nat.reduceSub, Nat.reduceMul, Nat.reduceLeDiff, Nat.reduceLT, Nat.reduceEqDiff, Nat.reduceBEq, Int.reduceAdd, Int.reduceSub, Int.reduceMul, Int.reduceNeg, Int.reduceToNat, Int.reduceLE, Int.reduceLT, Int.reduceEq, Int.reduceGE, Int.reduceGT, ↓reduceIte, reduceCtorEq, gm_pe, gm_pn, gc_put, gl_put, gs_put, cd_X4_here, hM.f, iI_rt, hp, t1]
    refine ⟨fun _ => ?_, fun q => absurd q (by omega)⟩
    unfold chr
    rw [List.getElem?_eq_none (by omega)]
    rfl
theorem TextOK.off {V' : Nat → Int} {M' : Nat → Int → Int} (h : TextOK M V T) (e7 : V' 7 = V 7) (e4 : M' 4 = M 4) : TextOK M' V' T := ⟨e7.trans h.1, h.2.1, by rw [e4]; exact h.2.2⟩
theorem m_number {p : Int} (hM : MR G o M V) (hT : TextOK M V T) (hb : txtB T) (hp : V 15 = p) (h0 : 0 ≤ p ∧ p ≤ 1000) : Tri X 2 Y_X4_number [.ref o] 0 0 G (fun r G' => r = some (.int (iI (numV T p))) ∧ MK G G' o ∧ MR G' o M (uV V 15 (numP T p))) := by
  obtain ⟨G0, hG0⟩ : ∃ G0, G0 = G := ⟨G, rfl⟩
  refine Tri.of (by decide +kernel) (Nat.le_of_ble_eq_true rfl) ?_
  generalize hQ : (fun (r : Option Value) G' => r = some (.int (iI (numV T p))) ∧ MK G G' o ∧ MR G' o M (uV V 15 (numP T p))) = Q
  -- one digit more, or the end
  have dig1 : ∀ (q v m : Int) (G1 : gH), 0 ≤ q → q ≤ 1001 → 0 ≤ m → m < 2 → 0 ≤ v → v ≤ 9 → MR G1 o M (uV V 15 q) → MK G G1 o → (dgt T q → ∀ G2, MR G2 o M (uV V 15 (q + 1)) → MK G G2 o → Wp X Y_X4_number 2 Q 0 0 G2 4 [some (.ref o), some (.int (iI (10 * v + (chr T q - 48)))), some (.int (iI (m + 1)))] []) → (¬ dgt T q → Wp X Y_X4_number 2 Q 0 0 G1 52 [some (.ref o), some (.int (iI v)), some (.int (iI m))] []) → Wp X Y_X4_number 2 Q 0 0 G1 4 [some (.ref o), some (.int (iI v)), some (.int (iI m))] [] := by
    intro q v m G1 q0 q1 m0 m1 v0 v1 hR hk yes no
    have e15 : uV V 15 q 15 = q := uV_s
    have cb := chr_b hb q
    have hT' : TextOK M (uV V 15 q) T := hT.off (uV_n (by decide)) rfl
    have h4 := hR.putV (f := 15) (v := q + 1) (by decide) (by omega)
    rw [uV_uV] at h4
    refine excS rfl 52 8 _ _ _ _ _ _ ?_
    simp (disch := omega) only [exB, Nat.reduceAdd, Nat.reduceSub, Nat.reduceMul, Nat.reduceLeDiff, Nat.reduceLT, Nat.reduceEqDiff, Nat.reduceBEq, Int.reduceAdd, Int.reduceSub, Int.reduceMul, Int.reduceNeg, Int.reduceToNat, Int.reduceLE, Int.reduceLT, Int.reduceEq, Int.reduceGE, Int.reduceGT, ↓reduceIte, reduceCtorEq, gm_pe, gm_pn, gc_put, gl_put, gs_put, cd_X4_number, hR.f, iI_rt]
    refine ⟨fun h => absurd h (by omega), fun _ => ?_⟩
    refine gCall.of (m_here hR hT' e15 q0) (by decide) (by first | omega | decide) (by first | omega | decide) ?_
    rintro r G' ⟨rfl, rfl⟩
    refine excS rfl 52 8 _ _ _ _ _ _ ?_
    simp (disch := omega) only [exB, Nat.reduceAdd, Nat.reduceSub, Nat.reduceMul, Nat.reduceLeDiff, Nat.reduceLT, Nat.reduceEqDiff, Nat.reduceBEq, Int.reduceAdd, Int.reduceSub, Int.reduceMul, Int.reduceNeg, Int.reduceToNat, Int.reduceLE, Int.reduceLT, Int.reduceEq, Int.reduceGE, Int.reduceGT, ↓reduceIte, reduceCtorEq, gm_pe, gm_pn, gc_put, gl_put, gs_put, cd_X4_number, hR.f, iI_rt]
    refine gCall.of (m_in (v := chr T q) (a := 48) (b := 57) (by omega) (by decide) (by decide)) (by decide) (by first | omega | decide) (by first | omega | decide) ?_
    rintro r G' ⟨rfl, rfl⟩
    by_cases h : dgt T q
    · rw [if_pos h]
      refine excS rfl 52 8 _ _ _ _ _ _ ?_
      simp (disch := omega) only [exB, Nat.reduceAdd, Nat.reduceSub, Nat.reduceMul, Nat.reduceLeDiff, Nat.reduceLT, Nat.reduceEqDiff, Nat.reduceBEq, Int.reduceAdd, Int.reduceSub, Int.reduceMul, Int.reduceNeg, Int.reduceToNat, Int.reduceLE, Int.reduceLT, Int.reduceEq, Int.reduceGE, Int.reduceGT, ↓reduceIte, reduceCtorEq, gm_pe, gm_pn, gc_put, gl_put, gs_put, cd_X4_number, hR.f, iI_rt]
      refine gCall.of (m_here hR hT' e15 q0) (by decide) (by first | omega | decide) (by first | omega | decide) ?_
      rintro r G' ⟨rfl, rfl⟩
      refine excS rfl 4 20 _ _ _ _ _ _ ?_
      simp (disch := omega) only [exB, Nat.reduceAdd, Nat.reduceSub, Nat.reduceMul, Nat.reduceLeDiff, Nat.reduceLT, Nat.reduceEqDiff, Nat.reduceBEq, Int.reduceAdd, Int.reduceSub, Int.reduceMul, Int.reduceNeg, Int.reduceToNat, Int.reduceLE, Int.reduceLT, Int.reduceEq, Int.reduceGE, Int.reduceGT, ↓reduceIte, reduceCtorEq, gm_pe, gm_pn, gc_put, gl_put, gs_put, cd_X4_number, hR.f, iI_rt, e15]
      have := yes h _ h4 (hk.put (a := o) (by omega))
      rw [show 10 * v + (chr T q - 48) = 10 * v + chr T q - 48 from by omega] at this
      exact this
    · rw [if_neg h]
      refine excS rfl 52 8 _ _ _ _ _ _ ?_
      simp (disch := omega) only [exB, Nat.reduceAdd, Nat.reduceSub, Nat.reduceMul, Nat.reduceLeDiff, Nat.reduceLT, Nat.reduceEqDiff, Nat.reduceBEq, Int.reduceAdd, Int.reduceSub, Int.reduceMul, Int.reduceNeg, Int.reduceToNat, Int.reduceLE, Int.reduceLT, Int.reduceEq, Int.reduceGE, Int.reduceGT, ↓reduceIte, reduceCtorEq, gm_pe, gm_pn, gc_put, gl_put, gs_put, cd_X4_number, hR.f, iI_rt]
      exact no h
  have fin : ∀ (v m q : Int) (G1 : gH), 0 ≤ m → m ≤ 2 → (if m = 0 then -1 else v) = numV T p → q = numP T p → MR G1 o M (uV V 15 q) → MK G G1 o → Wp X Y_X4_number 2 Q 0 0 G1 52 [some (.ref o), some (.int (iI v)), some (.int (iI m))] [] := by
    intro v m q G1 m0 m1 e1 e2 hR hk
    rw [e2] at hR
    subst hQ
    by_cases hm : m = 0
    · rw [if_pos hm] at e1
      subst hm
      refine exS rfl 8 _ _ _ _ _ _ ?_
      simp (disch := omega) only [exB, Nat.reduceAdd, Nat.reduceSub, Nat.reduceMul, Nat.reduceLeDiff, Nat.reduceLT, Nat.reduceEqDiff, Nat.reduceBEq, Int.reduceAdd, Int.reduceSub, Int.reduceMul, Int.reduceNeg, Int.reduceToNat, Int.reduceLE, Int.reduceLT, Int.reduceEq, Int.reduceGE, Int.reduceGT, ↓reduceIte, reduceCtorEq, gm_pe, gm_pn, gc_put, gl_put, gs_put, cd_X4_number, hR.f, iI_rt]
      exact ⟨by rw [e1], hk, hR⟩
    · rw [if_neg hm] at e1
      refine exS rfl 8 _ _ _ _ _ _ ?_
      simp (disch := omega) only [exB, Nat.reduceAdd, Nat.reduceSub, Nat.reduceMul, Nat.reduceLeDiff, Nat.reduceLT, Nat.reduceEqDiff, Nat.reduceBEq, Int.reduceAdd, Int.reduceSub, Int.reduceMul, Int.reduceNeg, Int.reduceToNat, Int.reduceLE, Int.reduceLT, Int.reduceEq, Int.reduceGE, Int.reduceGT, ↓reduceIte, reduceCtorEq, gm_pe, gm_pn, gc_put, gl_put, gs_put, cd_X4_number, hR.f, iI_rt]
      exact ⟨fun _ => ⟨by rw [e1], hk, hR⟩, fun q => absurd hm q⟩
  have hM0 : MR G o M (uV V 15 p) := by rw [← hp, uV_id]; exact hM
  refine excS rfl 4 4 _ _ _ _ _ _ ?_
  simp (disch := omega) only [exB, Nat.reduceAdd, Nat.reduceSub, Nat.reduceMul, Nat.reduceLeDiff, Nat.reduceLT, Nat.reduceEqDiff, Nat.reduceBEq, Int.reduceAdd, Int.reduceSub, Int.reduceMul, Int.reduceNeg, Int.reduceToNat, Int.reduceLE, Int.reduceLT, Int.reduceEq, Int.reduceGE, Int.reduceGT, ↓reduceIte, reduceCtorEq, gm_pe, gm_pn, gc_put, gl_put, gs_put, cd_X4_number]
  refine dig1 p 0 0 G h0.1 (by omega) (by decide) (by decide) (by decide) (by decide) hM0 MK.refl (fun hd G1 hR1 hk1 => ?_) (fun hd => ?_)
  · have cb := chr_b hb p
    refine dig1 (p + 1) _ _ G1 (by omega) (by omega) (by decide) (by decide) (by omega) (by omega) hR1 hk1 (fun hd2 G2 hR2 hk2 => ?_) (fun hd2 => ?_)
    · refine excS rfl 52 4 _ _ _ _ _ _ ?_
      simp (disch := omega) only [exB, Nat.reduceAdd, Nat.reduceSub, Nat.reduceMul, Nat.reduceLeDiff, Nat.reduceLT, Nat.reduceEqDiff, Nat.reduceBEq, Int.reduceAdd, Int.reduceSub, Int.reduceMul, Int.reduceNeg, Int.reduceToNat, Int.reduceLE, Int.reduceLT, Int.reduceEq, Int.reduceGE, Int.reduceGT, ↓reduceIte, reduceCtorEq, gm_pe, gm_pn, gc_put, gl_put, gs_put, cd_X4_number, iI_rt]
      refine fin _ 2 (p + 2) G2 (by decide) (by decide) ?_ ?_ (by rw [show p + 2 = p + 1 + 1 from by omega]; exact hR2) hk2
      · rw [if_neg (by decide)]; unfold numV; rw [if_pos hd, if_pos hd2]; omega
      · unfold numP; rw [if_pos hd, if_pos hd2]
    · refine fin _ _ (p + 1) G1 (by decide) (by decide) ?_ ?_ hR1 hk1
      · rw [if_neg (by decide)]; unfold numV; rw [if_pos hd, if_neg hd2]; omega
      · unfold numP; rw [if_pos hd, if_neg hd2]
  · refine fin _ _ p G (by decide) (by decide) ?_ ?_ hM0 MK.refl
    · rw [if_pos rfl]; unfold numV; rw [if_neg hd]
    · unfold numP; rw [if_neg hd]
theorem m_order {p : Int} (hM : MR G o M V) (hT : TextOK M V T) (hb : txtB T) (hB : RowB K (M 0)) (hp : V 15 = p) (h0 : 0 ≤ p ∧ p ≤ 900) : Tri X 7 Y_X4_order [.ref o] 0 0 G (fun r G' => r = none ∧ MK G G' o ∧ ∃ R M' V', (frm T p → RtO (M 0) (chr T p) (ordV T p) R) ∧ MR G' o M' V' ∧ M' 0 = ordN T (M 0) p R ∧ (∀ f, f ≠ 0 → f ≠ 8 → f ≠ 9 → f ≠ 10 → M' f = M f) ∧ (∀ f, f ≠ 11 → f ≠ 12 → f ≠ 13 → f ≠ 15 → f ≠ 16 → V' f = V f) ∧ V' 15 = ordP T p + 1 ∧ V' 16 = ordE T (M 0) p R) := by
  obtain ⟨G0, hG0⟩ : ∃ G0, G0 = G := ⟨G, rfl⟩
  have h5 := hB.2.1.1
  have h6 := hB.2.1.2
  refine Tri.of (by decide +kernel) (Nat.le_of_ble_eq_true rfl) ?_
  generalize hQ : (fun (r : Option Value) G' => r = none ∧ MK G G' o ∧ ∃ R M' V', (frm T p → RtO (M 0) (chr T p) (ordV T p) R) ∧ MR G' o M' V' ∧ M' 0 = ordN T (M 0) p R ∧ (∀ f, f ≠ 0 → f ≠ 8 → f ≠ 9 → f ≠ 10 → M' f = M f) ∧ (∀ f, f ≠ 11 → f ≠ 12 → f ≠ 13 → f ≠ 15 → f ≠ 16 → V' f = V f) ∧ V' 15 = ordP T p + 1 ∧ V' 16 = ordE T (M 0) p R) = Q
  have pb := ordP_b (T := T) p
  have vb := ordV_b (T := T) p
  have cb := chr_b hb p
  refine exS rfl 6 _ _ _ _ _ _ ?_
  simp (disch := omega) only [exB, Nat.reduceAdd, Nat.reduceSub, Nat.reduceMul, Nat.reduceLeDiff, Nat.reduceLT, Nat.reduceEqDiff, Nat.reduceBEq, Int.reduceAdd, Int.reduceSub, Int.reduceMul, Int.reduceNeg, Int.reduceToNat, Int.reduceLE, Int.reduceLT, Int.reduceEq, Int.reduceGE, Int.reduceGT, ↓reduceIte, reduceCtorEq, gm_pe, gm_pn, gc_put, gl_put, gs_put, cd_X4_order, hM.f, iI_rt]
  refine gCall.of (m_here hM hT hp h0.1) (by decide) (by first | omega | decide) (by first | omega | decide) ?_
  rintro r G' ⟨rfl, rfl⟩
  subst hG0
  have hR1 := hM.putV (f := 15) (v := p + 1) (by decide) (by omega)
  have hk1 := (MK.refl (G := G0) (o := o)).put (a := o) (j := 15) (v := .int (iI (p + 1))) (by omega)
  have hT1 : TextOK M (uV V 15 (p + 1)) T := hT.off (uV_n (by decide)) rfl
  generalize hc : chr T p = c at *
  -- all that follows, the number read
  have key : ∀ (G1 : gH), MR G1 o M (uV V 15 (ordP T p)) → MK G0 G1 o → Wp X Y_X4_order 7 Q 0 0 G1 30 [some (.ref o), some (.int (iI c)), some (.int (iI (ordV T p))), none, none] [] := by
    intro G1 hR hk
    generalize hv : ordV T p = v at *
    generalize hpp : ordP T p = q at *
    have hT2 : TextOK M (uV V 15 q) T := hT.off (uV_n (by decide)) rfl
    have e15 : uV V 15 q 15 = q := uV_s
    -- behind the form
    have form : ∀ b, bit b → (b = 1 ↔ frm T p) → Wp X Y_X4_order 7 Q 0 0 G1 84 [some (.ref o), some (.int (iI c)), some (.int (iI v)), none, none] [.int (iI b)] := by
      intro b hbb hbi
      have hR2 := hR.putV (f := 15) (v := q + 1) (by decide) (by omega)
      rw [uV_uV] at hR2
      have hk2 := hk.put (a := o) (j := 15) (v := .int (iI (q + 1))) (by omega)
      -- the end: a reason
      have fin : ∀ (G2 : gH) (M' : Nat → Int → Int) (V' : Nat → Int) (R : Option (List Int × Int)) (z : Int), MR G2 o M' V' → MK G0 G2 o → V' 15 = q + 1 → (∀ f, f ≠ 11 → f ≠ 12 → f ≠ 13 → f ≠ 15 → f ≠ 16 → V' f = V f) → (∀ f, f ≠ 0 → f ≠ 8 → f ≠ 9 → f ≠ 10 → M' f = M f) → (frm T p → RtO (M 0) c v R) → M' 0 = ordN T (M 0) p R → z = ordE T (M 0) p R → i32 z → Q none (gput G2 o 16 (.int (iI z))) := by
        intro G2 M' V' R z hR' hk' e15' hv' hf' hRt h0' hz hzb
        have h3 := hR'.putV (f := 16) (v := z) (by decide) hzb
        subst hQ
        refine ⟨rfl, hk'.put (a := o) (by omega), R, _, _, hRt, h3, h0', hf', fun f a b c d e => by rw [uV_n e]; exact hv' f a b c d e, by rw [uV_n (by decide)]; exact e15', by rw [uV_s]; exact hz⟩
      have vo : ∀ f, f ≠ 11 → f ≠ 12 → f ≠ 13 → f ≠ 15 → f ≠ 16 → uV V 15 (q + 1) f = V f := fun f _ _ _ d _ => uV_n d
      by_cases hb0 : b = 0
      · subst hb0
        have hnf : ¬ frm T p := fun z => absurd (hbi.mpr z) (by decide)
        refine exS rfl 20 _ _ _ _ _ _ ?_
        simp (disch := omega) only [exB, Nat.reduceAdd, Nat.reduceSub, Nat.reduceMul, Nat.reduceLeDiff, Nat.reduceLT, Nat.reduceEqDiff, Nat.reduceBEq, Int.reduceAdd, Int.reduceSub, Int.reduceMul, Int.reduceNeg, Int.reduceToNat, Int.reduceLE, Int.reduceLT, Int.reduceEq, Int.reduceGE, Int.reduceGT, ↓reduceIte, reduceCtorEq, gm_pe, gm_pn, gc_put, gl_put, gs_put, cd_X4_order, hR.f, iI_rt, e15]
        refine fin _ M _ none 1 hR2 hk2 uV_s vo (fun _ _ _ _ _ => rfl) ?_ ?_ ?_ (by decide)
        · exact fun z => absurd z hnf
        · unfold ordN; rw [if_neg (fun z => hnf z.1)]
        · unfold ordE; rw [if_neg hnf]
      have hb1 : b = 1 := hbb.resolve_left hb0
      subst hb1
      have hf : frm T p := hbi.mp rfl
      have eE : ∀ R, ordE T (M 0) p R = if thereO (M 0) c v then (if itsZ (M 0) c v R < 0 then 3 else 0) else 2 := by
        intro R; unfold ordE; rw [if_pos hf, hc, hv]
      have eN : ∀ R, thereO (M 0) c v → ordN T (M 0) p R = itsN (M 0) c v R := by
        intro R h; unfold ordN; rw [if_pos ⟨hf, by rw [hc, hv]; exact h⟩, hc, hv]
      have eNn : ∀ R, ¬ thereO (M 0) c v → ordN T (M 0) p R = M 0 := by
        intro R h; unfold ordN; rw [if_neg (fun z => h (by have := z.2; rw [hc, hv] at this; exact this))]
      generalize hG2 : gput G1 o 15 (.int (iI (q + 1))) = G2 at hR2 hk2
      -- the thing isn't there
      have nth : ¬ thereO (M 0) c v → Q none (gput G2 o 16 (.int (iI 2))) := by
        intro h
        refine fin _ M _ none 2 hR2 hk2 uV_s vo (fun _ _ _ _ _ => rfl) ?_ ?_ ?_ (by decide)
        · intro _ z1 z2
          refine absurd ?_ h
          unfold thereO
          rw [if_neg (by omega)]
          exact Or.inr (Or.inr z2)
        · rw [eNn _ h]
        · rw [eE, if_neg h]
      -- it is
      have sw : thereO (M 0) c v → ∀ u, Wp X Y_X4_order 7 Q 0 0 G2 148 [some (.ref o), some (.int (iI c)), some (.int (iI v)), some (.int (iI 1)), u] [] := by
        intro h u
        -- behind the act
        have done : ∀ (R : Option (List Int × Int)) (z : Int), z = itsZ (M 0) c v R → i32 z → RtO (M 0) c v R → ∀ r G3, APost G2 o M (uV V 15 (q + 1)) z (itsN (M 0) c v R) r G3 → r = some (.int (iI z)) ∧ Wp X Y_X4_order 7 Q 0 0 G3 256 [some (.ref o), some (.int (iI c)), some (.int (iI v)), some (.int (iI 1)), some (.int (iI z))] [] := by
          rintro R z hz hzb hRt r G3 ⟨rfl, hk3, M', V', hR3, e0, hf3, hv3⟩
          refine ⟨rfl, ?_⟩
          have fi : ∀ y, y = (if z < 0 then 3 else 0) → Q none (gput G3 o 16 (.int (iI y))) := by
            intro y hy
            refine fin G3 M' V' R y hR3 (hk2.trans hk3) ?_ ?_ hf3 (fun _ => hRt) ?_ ?_ ?_
            · rw [hv3 15 (by decide) (by decide) (by decide), uV_s]
            · intro f a b c d e
              rw [hv3 f a b c, uV_n d]
            · rw [e0, eN R h]
            · rw [hy, eE, if_pos h, hz]
            · rw [hy]; split <;> decide
          refine exS rfl 12 _ _ _ _ _ _ ?_
          simp (disch := omega) only [exB, Nat.reduceAdd, Nat.reduceSub, Nat.reduceMul, Nat.reduceLeDiff, Nat.reduceLT, Nat.reduceEqDiff, Nat.reduceBEq, Int.reduceAdd, Int.reduceSub, Int.reduceMul, Int.reduceNeg, Int.reduceToNat, Int.reduceLE, Int.reduceLT, Int.reduceEq, Int.reduceGE, Int.reduceGT, ↓reduceIte, reduceCtorEq, gm_pe, gm_pn, gc_put, gl_put, gs_put, cd_X4_order, hR3.f, iI_rt]
          exact ⟨fun y => fi 0 (by rw [if_neg (by omega)]), fun y => fi 3 (by rw [if_pos (by omega)])⟩
        refine exS rfl 5 _ _ _ _ _ _ ?_
        simp (disch := omega) only [exB, Nat.reduceAdd, Nat.reduceSub, Nat.reduceMul, Nat.reduceLeDiff, Nat.reduceLT, Nat.reduceEqDiff, Nat.reduceBEq, Int.reduceAdd, Int.reduceSub, Int.reduceMul, Int.reduceNeg, Int.reduceToNat, Int.reduceLE, Int.reduceLT, Int.reduceEq, Int.reduceGE, Int.reduceGT, ↓reduceIte, reduceCtorEq, gm_pe, gm_pn, gc_put, gl_put, gs_put, cd_X4_order, hR2.f, iI_rt]
        have hl : isLet c := by have := hf.2.2; rw [hc] at this; exact this
        unfold isLet at hl
        refine ⟨by decide, fun z => ?_, fun z1 => ⟨fun z => ?_, fun z2 => ⟨fun z => ?_, fun z3 => ⟨fun z => ?_, fun z4 => ⟨fun z => ?_, fun z5 => ?_⟩⟩⟩⟩⟩
        · refine gCall.of (m_appeals hR2 hB (c := v) (by omega)) (by decide) (by first | omega | decide) (by first | omega | decide) ?_
          intro r G3 hA
          have e1 : itsZ (M 0) c v none = appZ (M 0) v := by unfold itsZ; rw [if_neg (by omega), if_neg (by omega), if_neg (by omega), if_pos z]
          have e2 : itsN (M 0) c v none = appN (M 0) v := by unfold itsN; rw [if_neg (by omega), if_neg (by omega), if_neg (by omega), if_pos z]
          rw [← e2] at hA
          obtain ⟨rfl, hw⟩ := done none _ e1.symm (appZ_b (c := v) hB).1 (fun y => by omega) r G3 hA
          refine excS rfl 256 4 _ _ _ _ _ _ ?_
          simp (disch := omega) only [exB, Nat.reduceAdd, Nat.reduceSub, Nat.reduceMul, Nat.reduceLeDiff, Nat.reduceLT, Nat.reduceEqDiff, Nat.reduceBEq, Int.reduceAdd, Int.reduceSub, Int.reduceMul, Int.reduceNeg, Int.reduceToNat, Int.reduceLE, Int.reduceLT, Int.reduceEq, Int.reduceGE, Int.reduceGT, ↓reduceIte, reduceCtorEq, gm_pe, gm_pn, gc_put, gl_put, gs_put, cd_X4_order]
          exact hw
        · refine gCall.of (m_digsFor hR2 hB (n := v) (by omega)) (by decide) (by first | omega | decide) (by first | omega | decide) ?_
          rintro r G3 ⟨R, hRt, hA⟩
          have e1 : itsZ (M 0) c v R = digZ (M 0) v R := by unfold itsZ; rw [if_neg (by omega), if_pos z]
          have e2 : itsN (M 0) c v R = digN (M 0) v R := by unfold itsN; rw [if_neg (by omega), if_pos z]
          rw [← e2] at hA
          obtain ⟨rfl, hw⟩ := done R _ e1.symm (digZ_b (n := v) (R := R) hB).1 (fun _ z1 z2 => by rw [if_pos (by omega)]; exact hRt z1 z2) r G3 hA
          refine excS rfl 256 4 _ _ _ _ _ _ ?_
          simp (disch := omega) only [exB, Nat.reduceAdd, Nat.reduceSub, Nat.reduceMul, Nat.reduceLeDiff, Nat.reduceLT, Nat.reduceEqDiff, Nat.reduceBEq, Int.reduceAdd, Int.reduceSub, Int.reduceMul, Int.reduceNeg, Int.reduceToNat, Int.reduceLE, Int.reduceLT, Int.reduceEq, Int.reduceGE, Int.reduceGT, ↓reduceIte, reduceCtorEq, gm_pe, gm_pn, gc_put, gl_put, gs_put, cd_X4_order]
          exact hw
        · refine gCall.of (m_hears hR2 hB) (by decide) (by first | omega | decide) (by first | omega | decide) ?_
          intro r G3 hA
          have e1 : itsZ (M 0) c v none = hearZ (M 0) := by unfold itsZ; rw [if_neg (by omega), if_neg (by omega), if_neg (by omega), if_neg (by omega), if_pos z]
          have e2 : itsN (M 0) c v none = hearN (M 0) := by unfold itsN; rw [if_neg (by omega), if_neg (by omega), if_neg (by omega), if_neg (by omega), if_pos z]
          rw [← e2] at hA
          obtain ⟨rfl, hw⟩ := done none _ e1.symm (hearZ_b hB).1 (fun y => by omega) r G3 hA
          refine excS rfl 256 4 _ _ _ _ _ _ ?_
          simp (disch := omega) only [exB, Nat.reduceAdd, Nat.reduceSub, Nat.reduceMul, Nat.reduceLeDiff, Nat.reduceLT, Nat.reduceEqDiff, Nat.reduceBEq, Int.reduceAdd, Int.reduceSub, Int.reduceMul, Int.reduceNeg, Int.reduceToNat, Int.reduceLE, Int.reduceLT, Int.reduceEq, Int.reduceGE, Int.reduceGT, ↓reduceIte, reduceCtorEq, gm_pe, gm_pn, gc_put, gl_put, gs_put, cd_X4_order]
          exact hw
        · refine gCall.of (m_lays hR2 hB (n := v) (by omega)) (by decide) (by first | omega | decide) (by first | omega | decide) ?_
          rintro r G3 ⟨R, hRt, hA⟩
          have e1 : itsZ (M 0) c v R = layZ (M 0) v R := by unfold itsZ; rw [if_pos z]
          have e2 : itsN (M 0) c v R = layN (M 0) v R := by unfold itsN; rw [if_pos z]
          rw [← e2] at hA
          obtain ⟨rfl, hw⟩ := done R _ e1.symm (layZ_b hB hRt).1 (fun _ z1 z2 => by rw [if_neg (by omega)]; exact hRt z1 z2) r G3 hA
          refine excS rfl 256 4 _ _ _ _ _ _ ?_
          simp (disch := omega) only [exB, Nat.reduceAdd, Nat.reduceSub, Nat.reduceMul, Nat.reduceLeDiff, Nat.reduceLT, Nat.reduceEqDiff, Nat.reduceBEq, Int.reduceAdd, Int.reduceSub, Int.reduceMul, Int.reduceNeg, Int.reduceToNat, Int.reduceLE, Int.reduceLT, Int.reduceEq, Int.reduceGE, Int.reduceGT, ↓reduceIte, reduceCtorEq, gm_pe, gm_pn, gc_put, gl_put, gs_put, cd_X4_order]
          exact hw
        · refine gCall.of (m_rips hR2 hB (n := v) (by omega)) (by decide) (by first | omega | decide) (by first | omega | decide) ?_
          intro r G3 hA
          have e1 : itsZ (M 0) c v none = ripZ (M 0) v := by unfold itsZ; rw [if_neg (by omega), if_neg (by omega), if_pos z]
          have e2 : itsN (M 0) c v none = ripN (M 0) v := by unfold itsN; rw [if_neg (by omega), if_neg (by omega), if_pos z]
          rw [← e2] at hA
          obtain ⟨rfl, hw⟩ := done none _ e1.symm (ripZ_b (N := M 0) (n := v)).1 (fun y => by omega) r G3 hA
          refine excS rfl 256 4 _ _ _ _ _ _ ?_
          simp (disch := omega) only [exB, Nat.reduceAdd, Nat.reduceSub, Nat.reduceMul, Nat.reduceLeDiff, Nat.reduceLT, Nat.reduceEqDiff, Nat.reduceBEq, Int.reduceAdd, Int.reduceSub, Int.reduceMul, Int.reduceNeg, Int.reduceToNat, Int.reduceLE, Int.reduceLT, Int.reduceEq, Int.reduceGE, Int.reduceGT, ↓reduceIte, reduceCtorEq, gm_pe, gm_pn, gc_put, gl_put, gs_put, cd_X4_order]
          exact hw
        · refine gCall.of (m_passes hR2 hB (a := v) (by omega)) (by decide) (by first | omega | decide) (by first | omega | decide) ?_
          intro r G3 hA
          have e1 : itsZ (M 0) c v none = passZ (M 0) v := by unfold itsZ; rw [if_neg (by omega), if_neg (by omega), if_neg (by omega), if_neg (by omega), if_neg (by omega)]
          have e2 : itsN (M 0) c v none = passN (M 0) v := by unfold itsN; rw [if_neg (by omega), if_neg (by omega), if_neg (by omega), if_neg (by omega), if_neg (by omega)]
          rw [← e2] at hA
          obtain ⟨rfl, hw⟩ := done none _ e1.symm (passZ_b (a := v) hB).1 (fun y => by omega) r G3 hA
          refine excS rfl 256 4 _ _ _ _ _ _ ?_
          simp (disch := omega) only [exB, Nat.reduceAdd, Nat.reduceSub, Nat.reduceMul, Nat.reduceLeDiff, Nat.reduceLT, Nat.reduceEqDiff, Nat.reduceBEq, Int.reduceAdd, Int.reduceSub, Int.reduceMul, Int.reduceNeg, Int.reduceToNat, Int.reduceLE, Int.reduceLT, Int.reduceEq, Int.reduceGE, Int.reduceGT, ↓reduceIte, reduceCtorEq, gm_pe, gm_pn, gc_put, gl_put, gs_put, cd_X4_order]
          exact hw
      have hR2' : MR (gput G1 o 15 (.int (iI (q + 1)))) o M (uV V 15 (q + 1)) := by rw [hG2]; exact hR2
      refine excS rfl 148 22 _ _ _ _ _ _ ?_
      simp (disch := omega) only [exB, Nat.reduceAdd, Nat.reduceSub, Nat.reduceMul, Nat.reduceLeDiff, Nat.reduceLT, Nat.reduceEqDiff, Nat.reduceBEq, Int.reduceAdd, Int.reduceSub, Int.reduceMul, Int.reduceNeg, Int.reduceToNat, Int.reduceLE, Int.reduceLT, Int.reduceEq, Int.reduceGE, Int.reduceGT, ↓reduceIte, reduceCtorEq, gm_pe, gm_pn, gc_put, gl_put, gs_put, cd_X4_order, hR.f, hR2'.f, iI_rt, e15]
      rw [hG2]
      refine ⟨fun z => ⟨fun z2 => sw (by unfold thereO; rw [if_neg z]; exact Or.inl z2) _, fun z2 => ⟨fun z3 => sw (by unfold thereO; rw [if_neg z]; exact Or.inr (Or.inl z3)) _, fun z3 => ?_⟩⟩, fun z => ?_⟩
      · have et : thereO (M 0) c v ↔ isN (M 0) v := by
          unfold thereO; rw [if_neg z]
          exact ⟨fun y => (y.resolve_left z2).resolve_left z3, fun y => Or.inr (Or.inr y)⟩
        refine gCall.of (m_isNet hR2 (n := v) (by omega) (by omega)) (by decide) (by first | omega | decide) (by first | omega | decide) ?_
        rintro r G' ⟨rfl, rfl⟩
        by_cases hi : isN (M 0) v
        · rw [if_pos hi]
          refine excS rfl 148 6 _ _ _ _ _ _ ?_
          simp (disch := omega) only [exB, Nat.reduceAdd, Nat.reduceSub, Nat.reduceMul, Nat.reduceLeDiff, Nat.reduceLT, Nat.reduceEqDiff, Nat.reduceBEq, Int.reduceAdd, Int.reduceSub, Int.reduceMul, Int.reduceNeg, Int.reduceToNat, Int.reduceLE, Int.reduceLT, Int.reduceEq, Int.reduceGE, Int.reduceGT, ↓reduceIte, reduceCtorEq, gm_pe, gm_pn, gc_put, gl_put, gs_put, cd_X4_order, hR2.f, iI_rt]
          exact sw (et.mpr hi) _
        · rw [if_neg hi]
          refine excS rfl 148 12 _ _ _ _ _ _ ?_
          simp (disch := omega) only [exB, Nat.reduceAdd, Nat.reduceSub, Nat.reduceMul, Nat.reduceLeDiff, Nat.reduceLT, Nat.reduceEqDiff, Nat.reduceBEq, Int.reduceAdd, Int.reduceSub, Int.reduceMul, Int.reduceNeg, Int.reduceToNat, Int.reduceLE, Int.reduceLT, Int.reduceEq, Int.reduceGE, Int.reduceGT, ↓reduceIte, reduceCtorEq, gm_pe, gm_pn, gc_put, gl_put, gs_put, cd_X4_order, hR2.f, iI_rt]
          exact nth (fun y => hi (et.mp y))
      · have et : thereO (M 0) c v ↔ isC (M 0) v := by
          unfold thereO; rw [if_pos (Classical.not_not.mp z)]
        refine gCall.of (m_isClaim hR2 (n := v) (by omega) (by omega)) (by decide) (by first | omega | decide) (by first | omega | decide) ?_
        rintro r G' ⟨rfl, rfl⟩
        by_cases hi : isC (M 0) v
        · rw [if_pos hi]
          refine excS rfl 148 6 _ _ _ _ _ _ ?_
          simp (disch := omega) only [exB, Nat.reduceAdd, Nat.reduceSub, Nat.reduceMul, Nat.reduceLeDiff, Nat.reduceLT, Nat.reduceEqDiff, Nat.reduceBEq, Int.reduceAdd, Int.reduceSub, Int.reduceMul, Int.reduceNeg, Int.reduceToNat, Int.reduceLE, Int.reduceLT, Int.reduceEq, Int.reduceGE, Int.reduceGT, ↓reduceIte, reduceCtorEq, gm_pe, gm_pn, gc_put, gl_put, gs_put, cd_X4_order, hR2.f, iI_rt]
          exact sw (et.mpr hi) _
        · rw [if_neg hi]
          refine excS rfl 148 12 _ _ _ _ _ _ ?_
          simp (disch := omega) only [exB, Nat.reduceAdd, Nat.reduceSub, Nat.reduceMul, Nat.reduceLeDiff, Nat.reduceLT, Nat.reduceEqDiff, Nat.reduceBEq, Int.reduceAdd, Int.reduceSub, Int.reduceMul, Int.reduceNeg, Int.reduceToNat, Int.reduceLE, Int.reduceLT, Int.reduceEq, Int.reduceGE, Int.reduceGT, ↓reduceIte, reduceCtorEq, gm_pe, gm_pn, gc_put, gl_put, gs_put, cd_X4_order, hR2.f, iI_rt]
          exact nth (fun y => hi (et.mp y))
    refine excS rfl 84 8 _ _ _ _ _ _ ?_
    simp (disch := omega) only [exB, Nat.reduceAdd, Nat.reduceSub, Nat.reduceMul, Nat.reduceLeDiff, Nat.reduceLT, Nat.reduceEqDiff, Nat.reduceBEq, Int.reduceAdd, Int.reduceSub, Int.reduceMul, Int.reduceNeg, Int.reduceToNat, Int.reduceLE, Int.reduceLT, Int.reduceEq, Int.reduceGE, Int.reduceGT, ↓reduceIte, reduceCtorEq, gm_pe, gm_pn, gc_put, gl_put, gs_put, cd_X4_order, hR.f, iI_rt]
    refine ⟨fun z => form 0 (Or.inl rfl) (by unfold frm; rw [hv]; omega), fun z => ?_⟩
    refine gCall.of (m_here hR hT2 e15 (by omega)) (by decide) (by first | omega | decide) (by first | omega | decide) ?_
    rintro r G' ⟨rfl, rfl⟩
    have cq := chr_b hb q
    refine excS rfl 84 30 _ _ _ _ _ _ ?_
    simp (disch := omega) only [exB, Nat.reduceAdd, Nat.reduceSub, Nat.reduceMul, Nat.reduceLeDiff, Nat.reduceLT, Nat.reduceEqDiff, Nat.reduceBEq, Int.reduceAdd, Int.reduceSub, Int.reduceMul, Int.reduceNeg, Int.reduceToNat, Int.reduceLE, Int.reduceLT, Int.reduceEq, Int.reduceGE, Int.reduceGT, ↓reduceIte, reduceCtorEq, gm_pe, gm_pn, gc_put, gl_put, gs_put, cd_X4_order, hR.f, iI_rt]
    have ef : frm T p ↔ (chr T q = 59 ∧ isLet c) := by unfold frm; rw [hv, hpp, hc]; exact ⟨fun z => z.2, fun z' => ⟨by omega, z'⟩⟩
    have no : ¬ (chr T q = 59 ∧ isLet c) → Wp X Y_X4_order 7 Q 0 0 G' 84 [some (.ref o), some (.int (iI c)), some (.int (iI v)), none, none] [.int (iI 0)] := fun h => form 0 (Or.inl rfl) ⟨fun y => absurd y (by decide), fun y => absurd (ef.mp y) h⟩
    have yes : chr T q = 59 → isLet c → Wp X Y_X4_order 7 Q 0 0 G' 84 [some (.ref o), some (.int (iI c)), some (.int (iI v)), none, none] [.int (iI 1)] := fun h h' => form 1 (Or.inr rfl) ⟨fun _ => ef.mpr ⟨h, h'⟩, fun _ => rfl⟩
    refine ⟨fun y => no (fun x => y x.1), fun y => ?_⟩
    have y := Classical.not_not.mp y
    exact ⟨fun x => yes y (by unfold isLet; omega), fun x1 => ⟨fun x => yes y (by unfold isLet; omega), fun x2 => ⟨fun x => yes y (by unfold isLet; omega), fun x3 => ⟨fun x => yes y (by unfold isLet; omega), fun x4 => ⟨fun x => yes y (by unfold isLet; omega), fun x5 => ⟨fun x => no (fun z => by have := z.2; unfold isLet at this; omega), fun x => yes y (by unfold isLet; omega)⟩⟩⟩⟩⟩⟩
  refine excS rfl 30 20 _ _ _ _ _ _ ?_
  simp (disch := omega) only [exB, Nat.reduceAdd, Nat.reduceSub, Nat.reduceMul, Nat.reduceLeDiff, Nat.reduceLT, Nat.reduceEqDiff, Nat.reduceBEq, Int.reduceAdd, Int.reduceSub, Int.reduceMul, Int.reduceNeg, Int.reduceToNat, Int.reduceLE, Int.reduceLT, Int.reduceEq, Int.reduceGE, Int.reduceGT, ↓reduceIte, reduceCtorEq, gm_pe, gm_pn, gc_put, gl_put, gs_put, cd_X4_order, hM.f, iI_rt, hp]
  have eP : ordP T p = if c = 104 then p + 1 else numP T (p + 1) := by unfold ordP; rw [hc]
  have eV : ordV T p = if c = 104 then 0 else numV T (p + 1) := by unfold ordV; rw [hc]
  refine ⟨fun z => ?_, fun z => ?_⟩
  · refine gCall.of (m_number hR1 hT1 hb (p := p + 1) uV_s (by omega)) (by decide) (by first | omega | decide) (by first | omega | decide) ?_
    rintro r G1 ⟨rfl, hk2, hR2⟩
    rw [if_neg z] at eP eV
    rw [uV_uV, ← eP] at hR2
    rw [← eV]
    refine excS rfl 30 2 _ _ _ _ _ _ ?_
    simp (disch := omega) only [exB, Nat.reduceAdd, Nat.reduceSub, Nat.reduceMul, Nat.reduceLeDiff, Nat.reduceLT, Nat.reduceEqDiff, Nat.reduceBEq, Int.reduceAdd, Int.reduceSub, Int.reduceMul, Int.reduceNeg, Int.reduceToNat, Int.reduceLE, Int.reduceLT, Int.reduceEq, Int.reduceGE, Int.reduceGT, ↓reduceIte, reduceCtorEq, gm_pe, gm_pn, gc_put, gl_put, gs_put, cd_X4_order]
    exact key G1 hR2 (hk1.trans hk2)
  · have z := Classical.not_not.mp z
    rw [if_pos z] at eP eV
    have := key _ (by rw [eP]; exact hR1) hk1
    rw [eV] at this
    exact this
end
