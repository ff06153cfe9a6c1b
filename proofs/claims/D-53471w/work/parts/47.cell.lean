/-! CELLS, and the smallest methods of the JDK -/
set_option maxRecDepth 100000
set_option maxHeartbeats 1000000
section
variable {X : gX} {G : gH}
end
section
variable {X : gX} {Y : gM} {d : Nat} {Q : Option Value → gH → Prop} {k n : Nat} {G : gH} {pc : Nat} {l : List (Option Value)} {st : List Value}
theorem w_objInit {idx a : Nat} (w : Cond.methodLink (my Y).cls idx ⟨"java/lang/Object", "<init>", "()V"⟩ ∈ lw_all) (hd : decode (mc Y) pc = .ok (.invokespecial idx, 3)) (hrl : st.length ≤ 4) (hd0 : 1 ≤ d) (h : Wp X Y d Q k n G (pc + 3) l st) : Wp X Y d Q k n G pc l (.ref a :: st) := by
  intro p lc e R s m args below meth c cm sm C g1 g2 H locs cells slots ls r1 r2 r3 r4 r5 r6
  have kk := h p lc e R s m args below meth c cm sm C g1 g2 H locs cells slots ls r1 r2 r3 r4 r5 r6
  obtain ⟨hx, hb, hre, hlk, hml, hown, hnm, hts, hK, hfr, hlo, hb0, hh0⟩ := C
  exact W.objInit hx hb hown (hts _ w) (hts _ q163) (hts _ q164) (g := F0 m pc ls (.ref a :: st)) rfl (by rw [hml]; exact r6.1) rfl hd (by omega) (by
    have h8 := rest_room hrl
    show 2 * 0 + _ + 12 ≤ _
    omega) kk
theorem w_mmax {idx : Nat} {x y : Int} (hx0 : i32 x) (hy0 : i32 y) (w : Cond.methodLink (my Y).cls idx ⟨"java/lang/Math", "max", "(II)I"⟩ ∈ lw_all) (hd : decode (mc Y) pc = .ok (.invokestatic idx, 3)) (hrl : st.length ≤ 4) (hd0 : 1 ≤ d) (h : Wp X Y d Q k n G (pc + 3) l (.int (iI (max x y)) :: st)) : Wp X Y d Q k n G pc l (.int (iI y) :: .int (iI x) :: st) := by
  intro p lc e R s m args below meth c cm sm C g1 g2 H locs cells slots ls r1 r2 r3 r4 r5 r6
  have kk := h p lc e R s m args below meth c cm sm C g1 g2 H locs cells slots ls r1 r2 r3 r4 r5 r6
  obtain ⟨hx, hb, hre, hlk, hml, hown, hnm, hts, hK, hfr, hlo, hb0, hh0⟩ := C
  refine va_mmax hx hb (by rw [hml]; exact r6.1.symm) hown (hts _ w) (hts _ q1527) (hts _ q137) (hts _ q1528) (by omega) (by have h8 := rest_room hrl; omega) (by omega) (by omega) hd ?_
  have e : (if iI x < iI y then iI y else iI x) = iI (max x y) := by
    have e1 : iI x < iI y ↔ x < y := by rw [Int32.lt_iff_toInt_lt, iI_toInt hx0, iI_toInt hy0]
    by_cases hl : x < y
    · rw [if_pos (e1.mpr hl), show max x y = y by omega]
    · rw [if_neg (fun q => hl (e1.mp q)), show max x y = x by omega]
  rw [e]; exact kk
theorem w_mmin {idx : Nat} {x y : Int} (hx0 : i32 x) (hy0 : i32 y) (w : Cond.methodLink (my Y).cls idx ⟨"java/lang/Math", "min", "(II)I"⟩ ∈ lw_all) (hd : decode (mc Y) pc = .ok (.invokestatic idx, 3)) (hrl : st.length ≤ 4) (hd0 : 1 ≤ d) (h : Wp X Y d Q k n G (pc + 3) l (.int (iI (min x y)) :: st)) : Wp X Y d Q k n G pc l (.int (iI y) :: .int (iI x) :: st) := by
  intro p lc e R s m args below meth c cm sm C g1 g2 H locs cells slots ls r1 r2 r3 r4 r5 r6
  have kk := h p lc e R s m args below meth c cm sm C g1 g2 H locs cells slots ls r1 r2 r3 r4 r5 r6
  obtain ⟨hx, hb, hre, hlk, hml, hown, hnm, hts, hK, hfr, hlo, hb0, hh0⟩ := C
  refine va_mmin hx hb (by rw [hml]; exact r6.1.symm) hown (hts _ w) (hts _ q1194) (hts _ q137) (hts _ q1195) (by omega) (by have h8 := rest_room hrl; omega) (by omega) (by omega) hd ?_
  have e : (if iI y < iI x then iI y else iI x) = iI (min x y) := by
    have e1 : iI y < iI x ↔ y < x := by rw [Int32.lt_iff_toInt_lt, iI_toInt hx0, iI_toInt hy0]
    by_cases hl : y < x
    · rw [if_pos (e1.mpr hl), show min x y = y by omega]
    · rw [if_neg (fun q => hl (e1.mp q)), show min x y = x by omega]
  rw [e]; exact kk
end
section
variable {X : gX} {G : gH}
theorem j_ac {a : Nat} : Tri X 2 Y_J0_init [.ref a] 0 0 G (fun r G' => r = none ∧ G' = G) := by
  refine Tri.of (by decide +kernel) (Nat.le_of_ble_eq_true rfl) ?_
  refine excS rfl 1 4 _ _ _ _ _ _ ?_
  simp (disch := first | omega | (simp only [gs_new, gs_put] <;> omega)) only [exB, Nat.reduceAdd, Nat.reduceSub, Nat.reduceMul, Nat.reduceLeDiff, Nat.reduceLT, Nat.reduceEqDiff, Nat.reduceBEq, Int.reduceAdd, Int.reduceSub, Int.reduceMul, Int.reduceNeg, Int.reduceToNat, Int.reduceLE, Int.reduceLT, Int.reduceEq, Int.reduceGE, Int.reduceGT, ↓reduceIte, reduceCtorEq, gm_pe, gm_pn, gc_put, gl_put, gs_put, exists_eq_left', exists_eq_left, gs_new, gc_ne, gc_nn, gl_ne, gl_nn, gm_ne, gm_nn, cd_J0_init]
  refine w_objInit q188 dJ0_init_1 (by decide) (by decide) ?_
  refine exS rfl 4 _ _ _ _ _ _ ?_
  simp (disch := first | omega | (simp only [gs_new, gs_put] <;> omega)) only [exB, Nat.reduceAdd, Nat.reduceSub, Nat.reduceMul, Nat.reduceLeDiff, Nat.reduceLT, Nat.reduceEqDiff, Nat.reduceBEq, Int.reduceAdd, Int.reduceSub, Int.reduceMul, Int.reduceNeg, Int.reduceToNat, Int.reduceLE, Int.reduceLT, Int.reduceEq, Int.reduceGE, Int.reduceGT, ↓reduceIte, reduceCtorEq, gm_pe, gm_pn, gc_put, gl_put, gs_put, exists_eq_left', exists_eq_left, gs_new, gc_ne, gc_nn, gl_ne, gl_nn, gm_ne, gm_nn, cd_J0_init]
theorem j_as {a : Nat} (ha : gc G a ≠ 0) : Tri X 3 Y_J13_init [.ref a] 0 0 G (fun r G' => r = none ∧ G' = G) := by
  refine Tri.of (by decide +kernel) (Nat.le_of_ble_eq_true rfl) ?_
  refine exS rfl 4 _ _ _ _ _ _ ?_
  simp (disch := first | omega | (simp only [gs_new, gs_put] <;> omega)) only [exB, Nat.reduceAdd, Nat.reduceSub, Nat.reduceMul, Nat.reduceLeDiff, Nat.reduceLT, Nat.reduceEqDiff, Nat.reduceBEq, Int.reduceAdd, Int.reduceSub, Int.reduceMul, Int.reduceNeg, Int.reduceToNat, Int.reduceLE, Int.reduceLT, Int.reduceEq, Int.reduceGE, Int.reduceGT, ↓reduceIte, reduceCtorEq, gm_pe, gm_pn, gc_put, gl_put, gs_put, exists_eq_left', exists_eq_left, gs_new, gc_ne, gc_nn, gl_ne, gl_nn, gm_ne, gm_nn, cd_J13_init]
  refine ⟨ha, ?_⟩
  refine gCall.of (j_ac) (by decide) (by first | omega | decide) (by first | omega | decide) ?_
  rintro r G' ⟨rfl, rfl⟩
  refine exS rfl 4 _ _ _ _ _ _ ?_
  simp (disch := first | omega | (simp only [gs_new, gs_put] <;> omega)) only [exB, Nat.reduceAdd, Nat.reduceSub, Nat.reduceMul, Nat.reduceLeDiff, Nat.reduceLT, Nat.reduceEqDiff, Nat.reduceBEq, Int.reduceAdd, Int.reduceSub, Int.reduceMul, Int.reduceNeg, Int.reduceToNat, Int.reduceLE, Int.reduceLT, Int.reduceEq, Int.reduceGE, Int.reduceGT, ↓reduceIte, reduceCtorEq, gm_pe, gm_pn, gc_put, gl_put, gs_put, exists_eq_left', exists_eq_left, gs_new, gc_ne, gc_nn, gl_ne, gl_nn, gm_ne, gm_nn, cd_J13_init]
theorem j_am {a : Nat} : Tri X 2 Y_J3_init [.ref a] 0 0 G (fun r G' => r = none ∧ G' = G) := by
  refine Tri.of (by decide +kernel) (Nat.le_of_ble_eq_true rfl) ?_
  refine excS rfl 1 4 _ _ _ _ _ _ ?_
  simp (disch := first | omega | (simp only [gs_new, gs_put] <;> omega)) only [exB, Nat.reduceAdd, Nat.reduceSub, Nat.reduceMul, Nat.reduceLeDiff, Nat.reduceLT, Nat.reduceEqDiff, Nat.reduceBEq, Int.reduceAdd, Int.reduceSub, Int.reduceMul, Int.reduceNeg, Int.reduceToNat, Int.reduceLE, Int.reduceLT, Int.reduceEq, Int.reduceGE, Int.reduceGT, ↓reduceIte, reduceCtorEq, gm_pe, gm_pn, gc_put, gl_put, gs_put, exists_eq_left', exists_eq_left, gs_new, gc_ne, gc_nn, gl_ne, gl_nn, gm_ne, gm_nn, cd_J3_init]
  refine w_objInit q227 dJ3_init_1 (by decide) (by decide) ?_
  refine exS rfl 4 _ _ _ _ _ _ ?_
  simp (disch := first | omega | (simp only [gs_new, gs_put] <;> omega)) only [exB, Nat.reduceAdd, Nat.reduceSub, Nat.reduceMul, Nat.reduceLeDiff, Nat.reduceLT, Nat.reduceEqDiff, Nat.reduceBEq, Int.reduceAdd, Int.reduceSub, Int.reduceMul, Int.reduceNeg, Int.reduceToNat, Int.reduceLE, Int.reduceLT, Int.reduceEq, Int.reduceGE, Int.reduceGT, ↓reduceIte, reduceCtorEq, gm_pe, gm_pn, gc_put, gl_put, gs_put, exists_eq_left', exists_eq_left, gs_new, gc_ne, gc_nn, gl_ne, gl_nn, gm_ne, gm_nn, cd_J3_init]
theorem j_aq {a : Nat} (ha : gc G a ≠ 0) : Tri X 3 Y_J42_init [.ref a] 0 0 G (fun r G' => r = none ∧ G' = G) := by
  refine Tri.of (by decide +kernel) (Nat.le_of_ble_eq_true rfl) ?_
  refine exS rfl 4 _ _ _ _ _ _ ?_
  simp (disch := first | omega | (simp only [gs_new, gs_put] <;> omega)) only [exB, Nat.reduceAdd, Nat.reduceSub, Nat.reduceMul, Nat.reduceLeDiff, Nat.reduceLT, Nat.reduceEqDiff, Nat.reduceBEq, Int.reduceAdd, Int.reduceSub, Int.reduceMul, Int.reduceNeg, Int.reduceToNat, Int.reduceLE, Int.reduceLT, Int.reduceEq, Int.reduceGE, Int.reduceGT, ↓reduceIte, reduceCtorEq, gm_pe, gm_pn, gc_put, gl_put, gs_put, exists_eq_left', exists_eq_left, gs_new, gc_ne, gc_nn, gl_ne, gl_nn, gm_ne, gm_nn, cd_J42_init]
  refine ⟨ha, ?_⟩
  refine gCall.of (j_ac) (by decide) (by first | omega | decide) (by first | omega | decide) ?_
  rintro r G' ⟨rfl, rfl⟩
  refine exS rfl 4 _ _ _ _ _ _ ?_
  simp (disch := first | omega | (simp only [gs_new, gs_put] <;> omega)) only [exB, Nat.reduceAdd, Nat.reduceSub, Nat.reduceMul, Nat.reduceLeDiff, Nat.reduceLT, Nat.reduceEqDiff, Nat.reduceBEq, Int.reduceAdd, Int.reduceSub, Int.reduceMul, Int.reduceNeg, Int.reduceToNat, Int.reduceLE, Int.reduceLT, Int.reduceEq, Int.reduceGE, Int.reduceGT, ↓reduceIte, reduceCtorEq, gm_pe, gm_pn, gc_put, gl_put, gs_put, exists_eq_left', exists_eq_left, gs_new, gc_ne, gc_nn, gl_ne, gl_nn, gm_ne, gm_nn, cd_J42_init]
theorem j_cmp {a b : Int} (ha : i32 a) (hb : i32 b) : Tri X 1 Y_J18_compare [.int (iI a), .int (iI b)] 0 0 G (fun r G' => r = some (.int (iI (if a < b then -1 else if a = b then 0 else 1))) ∧ G' = G) := by
  refine Tri.of (by decide +kernel) (Nat.le_of_ble_eq_true rfl) ?_
  refine exS rfl 12 _ _ _ _ _ _ ?_
  simp (disch := first | omega | (simp only [gs_new, gs_put] <;> omega)) only [exB, Nat.reduceAdd, Nat.reduceSub, Nat.reduceMul, Nat.reduceLeDiff, Nat.reduceLT, Nat.reduceEqDiff, Nat.reduceBEq, Int.reduceAdd, Int.reduceSub, Int.reduceMul, Int.reduceNeg, Int.reduceToNat, Int.reduceLE, Int.reduceLT, Int.reduceEq, Int.reduceGE, Int.reduceGT, ↓reduceIte, reduceCtorEq, gm_pe, gm_pn, gc_put, gl_put, gs_put, exists_eq_left', exists_eq_left, gs_new, gc_ne, gc_nn, gl_ne, gl_nn, gm_ne, gm_nn, cd_J18_compare, iI_rt]
  grind
theorem x_over {z : Int} (hz : inC z) : Tri X 1 Y_X0_over [.int (iI z)] 0 0 G (fun r G' => r = some (.int (iI ((z + 81) % 162))) ∧ G' = G) := by
  have := hz.1
  have := hz.2
  refine Tri.of (by decide +kernel) (Nat.le_of_ble_eq_true rfl) ?_
  refine exS rfl 12 _ _ _ _ _ _ ?_
  simp (disch := first | omega | (simp only [gs_new, gs_put] <;> omega)) only [exB, Nat.reduceAdd, Nat.reduceSub, Nat.reduceMul, Nat.reduceLeDiff, Nat.reduceLT, Nat.reduceEqDiff, Nat.reduceBEq, Int.reduceAdd, Int.reduceSub, Int.reduceMul, Int.reduceNeg, Int.reduceToNat, Int.reduceLE, Int.reduceLT, Int.reduceEq, Int.reduceGE, Int.reduceGT, ↓reduceIte, reduceCtorEq, gm_pe, gm_pn, gc_put, gl_put, gs_put, exists_eq_left', exists_eq_left, gs_new, gc_ne, gc_nn, gl_ne, gl_nn, gm_ne, gm_nn, cd_X0_over, iI_rt, iI_rem]
theorem x_btw {a b c : Int} (ha : i32 a) (hb : i32 b) (hc : i32 c) : Tri X 1 Y_X0_isBetween [.long (lI a), .long (lI b), .long (lI c)] 0 0 G (fun r G' => r = some (.int (iI (if b ≤ a ∧ a ≤ c then 1 else 0))) ∧ G' = G) := by
  have cmp : ∀ x y : Int, i32 x → i32 y → lg_cmp (lI x) (lI y) = iI (if x < y then -1 else if x = y then 0 else 1) := by
    intro x y hx hy
    unfold lg_cmp
    have e1 : lI x < lI y ↔ x < y := by rw [Int64.lt_iff_toInt_lt, lI_toInt (by omega), lI_toInt (by omega)]
    have e2 : lI x = lI y ↔ x = y := ⟨fun q => by
      have := congrArg Int64.toInt q
      rw [lI_toInt (by omega), lI_toInt (by omega)] at this
      exact this, fun q => by rw [q]⟩
    have e3 : lI y < lI x ↔ y < x := by rw [Int64.lt_iff_toInt_lt, lI_toInt (by omega), lI_toInt (by omega)]
    simp only [e2, e3]
    by_cases h1 : x < y
    · rw [if_neg (show ¬ y < x by omega), if_neg (show ¬ x = y by omega), if_pos h1]; rfl
    · by_cases h2 : x = y
      · rw [if_neg (show ¬ y < x by omega), if_pos h2, if_neg h1, if_pos h2]; rfl
      · rw [if_pos (show y < x by omega), if_neg h1, if_neg h2]; rfl
  refine Tri.of (by decide +kernel) (Nat.le_of_ble_eq_true rfl) ?_
  refine exS rfl 12 _ _ _ _ _ _ ?_
  simp (disch := first | omega | (simp only [gs_new, gs_put] <;> omega)) only [exB, Nat.reduceAdd, Nat.reduceSub, Nat.reduceMul, Nat.reduceLeDiff, Nat.reduceLT, Nat.reduceEqDiff, Nat.reduceBEq, Int.reduceAdd, Int.reduceSub, Int.reduceMul, Int.reduceNeg, Int.reduceToNat, Int.reduceLE, Int.reduceLT, Int.reduceEq, Int.reduceGE, Int.reduceGT, ↓reduceIte, reduceCtorEq, gm_pe, gm_pn, gc_put, gl_put, gs_put, exists_eq_left', exists_eq_left, gs_new, gc_ne, gc_nn, gl_ne, gl_nn, gm_ne, gm_nn, cd_X0_isBetween, iI_rt, cmp a b ha hb, cmp a c ha hc]
  grind
theorem c_init {a : Nat} {z : Int} (ha : gc G a = 8) : Tri X 2 Y_X7_init [.ref a, .int (iI z)] 0 0 G (fun r G' => r = none ∧ G' = gput G a 0 (.int (iI z))) := by
  refine Tri.of (by decide +kernel) (Nat.le_of_ble_eq_true rfl) ?_
  refine excS rfl 1 4 _ _ _ _ _ _ ?_
  simp (disch := first | omega | (simp only [gs_new, gs_put] <;> omega)) only [exB, Nat.reduceAdd, Nat.reduceSub, Nat.reduceMul, Nat.reduceLeDiff, Nat.reduceLT, Nat.reduceEqDiff, Nat.reduceBEq, Int.reduceAdd, Int.reduceSub, Int.reduceMul, Int.reduceNeg, Int.reduceToNat, Int.reduceLE, Int.reduceLT, Int.reduceEq, Int.reduceGE, Int.reduceGT, ↓reduceIte, reduceCtorEq, gm_pe, gm_pn, gc_put, gl_put, gs_put, exists_eq_left', exists_eq_left, gs_new, gc_ne, gc_nn, gl_ne, gl_nn, gm_ne, gm_nn, cd_X7_init]
  refine w_objInit q1666 dX7_init_1 (by decide) (by decide) ?_
  refine exS rfl 8 _ _ _ _ _ _ ?_
  simp (disch := first | omega | (simp only [gs_new, gs_put] <;> omega)) only [exB, Nat.reduceAdd, Nat.reduceSub, Nat.reduceMul, Nat.reduceLeDiff, Nat.reduceLT, Nat.reduceEqDiff, Nat.reduceBEq, Int.reduceAdd, Int.reduceSub, Int.reduceMul, Int.reduceNeg, Int.reduceToNat, Int.reduceLE, Int.reduceLT, Int.reduceEq, Int.reduceGE, Int.reduceGT, ↓reduceIte, reduceCtorEq, gm_pe, gm_pn, gc_put, gl_put, gs_put, exists_eq_left', exists_eq_left, gs_new, gc_ne, gc_nn, gl_ne, gl_nn, gm_ne, gm_nn, cd_X7_init, ha]
  trivial
/-- a cell is made -/
def nCell (G : gH) (z : Int) : gH := gput (gnew G 8 0 (vp_V (gDf 7))) (gs G) 0 (.int (iI z))
theorem nCell_s {z : Int} : gs (nCell G z) = gs G + 1 := rfl
theorem nCell_ok {z : Int} (hz : inC z) : isCell (nCell G z) (gs G) z := ⟨by rw [nCell_s]; omega, by unfold nCell; rw [gc_put, gc_ne], by unfold nCell; rw [gm_pe], hz⟩
theorem nCell_fr {S : Nat → Prop} {z : Int} : Fr S G (nCell G z) := (Fr.refl.new).put (Or.inr (Nat.le_refl _))
theorem c_hash {a : Nat} {z : Int} (h : isCell G a z) : Tri X 1 Y_X7_hashCode [.ref a] 0 0 G (fun r G' => r = some (.int (iI z)) ∧ G' = G) := by
  refine Tri.of (by decide +kernel) (Nat.le_of_ble_eq_true rfl) ?_
  refine exS rfl 4 _ _ _ _ _ _ ?_
  simp (disch := first | omega | (simp only [gs_new, gs_put] <;> omega)) only [exB, Nat.reduceAdd, Nat.reduceSub, Nat.reduceMul, Nat.reduceLeDiff, Nat.reduceLT, Nat.reduceEqDiff, Nat.reduceBEq, Int.reduceAdd, Int.reduceSub, Int.reduceMul, Int.reduceNeg, Int.reduceToNat, Int.reduceLE, Int.reduceLT, Int.reduceEq, Int.reduceGE, Int.reduceGT, ↓reduceIte, reduceCtorEq, gm_pe, gm_pn, gc_put, gl_put, gs_put, exists_eq_left', exists_eq_left, gs_new, gc_ne, gc_nn, gl_ne, gl_nn, gm_ne, gm_nn, cd_X7_hashCode, h.2.1, h.2.2.1]
theorem c_equals {a b : Nat} {z w : Int} (h : isCell G a z) (h' : isCell G b w) : Tri X 1 Y_X7_equals [.ref a, .ref b] 0 0 G (fun r G' => r = some (.int (iI (if w = z then 1 else 0))) ∧ G' = G) := by
  have := h.2.2.2
  have := h'.2.2.2
  refine Tri.of (by decide +kernel) (Nat.le_of_ble_eq_true rfl) ?_
  refine exS rfl 20 _ _ _ _ _ _ ?_
  simp (disch := first | omega | (simp only [gs_new, gs_put] <;> omega)) only [exB, Nat.reduceAdd, Nat.reduceSub, Nat.reduceMul, Nat.reduceLeDiff, Nat.reduceLT, Nat.reduceEqDiff, Nat.reduceBEq, Int.reduceAdd, Int.reduceSub, Int.reduceMul, Int.reduceNeg, Int.reduceToNat, Int.reduceLE, Int.reduceLT, Int.reduceEq, Int.reduceGE, Int.reduceGT, ↓reduceIte, reduceCtorEq, gm_pe, gm_pn, gc_put, gl_put, gs_put, exists_eq_left', exists_eq_left, gs_new, gc_ne, gc_nn, gl_ne, gl_nn, gm_ne, gm_nn, cd_X7_equals, h.2.1, h.2.2.1, h'.2.1, h'.2.2.1, iI_rt]
  grind
theorem c_place {a : Nat} {z : Int} (h : isCell G a z) : Tri X 1 Y_X7_place [.ref a] 0 0 G (fun r G' => r = some (.int (iI (z % 81))) ∧ G' = G) := by
  have := h.2.2.2
  refine Tri.of (by decide +kernel) (Nat.le_of_ble_eq_true rfl) ?_
  refine exS rfl 6 _ _ _ _ _ _ ?_
  simp (disch := first | omega | (simp only [gs_new, gs_put] <;> omega)) only [exB, Nat.reduceAdd, Nat.reduceSub, Nat.reduceMul, Nat.reduceLeDiff, Nat.reduceLT, Nat.reduceEqDiff, Nat.reduceBEq, Int.reduceAdd, Int.reduceSub, Int.reduceMul, Int.reduceNeg, Int.reduceToNat, Int.reduceLE, Int.reduceLT, Int.reduceEq, Int.reduceGE, Int.reduceGT, ↓reduceIte, reduceCtorEq, gm_pe, gm_pn, gc_put, gl_put, gs_put, exists_eq_left', exists_eq_left, gs_new, gc_ne, gc_nn, gl_ne, gl_nn, gm_ne, gm_nn, cd_X7_place, h.2.1, h.2.2.1, iI_rt, iI_rem]
theorem c_compareTo2 {a b : Nat} {z w : Int} (h : isCell G a z) (h' : isCell G b w) : Tri X 2 Y_X7_compareTo_2 [.ref a, .ref b] 0 0 G (fun r G' => r = some (.int (iI (if z < w then -1 else if z = w then 0 else 1))) ∧ G' = G) := by
  have := h.2.2.2
  have := h'.2.2.2
  refine Tri.of (by decide +kernel) (Nat.le_of_ble_eq_true rfl) ?_
  refine exS rfl 6 _ _ _ _ _ _ ?_
  simp (disch := first | omega | (simp only [gs_new, gs_put] <;> omega)) only [exB, Nat.reduceAdd, Nat.reduceSub, Nat.reduceMul, Nat.reduceLeDiff, Nat.reduceLT, Nat.reduceEqDiff, Nat.reduceBEq, Int.reduceAdd, Int.reduceSub, Int.reduceMul, Int.reduceNeg, Int.reduceToNat, Int.reduceLE, Int.reduceLT, Int.reduceEq, Int.reduceGE, Int.reduceGT, ↓reduceIte, reduceCtorEq, gm_pe, gm_pn, gc_put, gl_put, gs_put, exists_eq_left', exists_eq_left, gs_new, gc_ne, gc_nn, gl_ne, gl_nn, gm_ne, gm_nn, cd_X7_compareTo_2, h.2.1, h.2.2.1, h'.2.1, h'.2.2.1]
  refine gCall.of (j_cmp (a := z) (b := w) (by omega) (by omega)) (by decide) (by first | omega | decide) (by first | omega | decide) ?_
  rintro r G' ⟨rfl, rfl⟩
  refine exS rfl 4 _ _ _ _ _ _ ?_
  simp (disch := first | omega | (simp only [gs_new, gs_put] <;> omega)) only [exB, Nat.reduceAdd, Nat.reduceSub, Nat.reduceMul, Nat.reduceLeDiff, Nat.reduceLT, Nat.reduceEqDiff, Nat.reduceBEq, Int.reduceAdd, Int.reduceSub, Int.reduceMul, Int.reduceNeg, Int.reduceToNat, Int.reduceLE, Int.reduceLT, Int.reduceEq, Int.reduceGE, Int.reduceGT, ↓reduceIte, reduceCtorEq, gm_pe, gm_pn, gc_put, gl_put, gs_put, exists_eq_left', exists_eq_left, gs_new, gc_ne, gc_nn, gl_ne, gl_nn, gm_ne, gm_nn, cd_X7_compareTo_2]
theorem c_compareTo {a b : Nat} {z w : Int} (h : isCell G a z) (h' : isCell G b w) : Tri X 3 Y_X7_compareTo [.ref a, .ref b] 0 0 G (fun r G' => r = some (.int (iI (if z < w then -1 else if z = w then 0 else 1))) ∧ G' = G) := by
  refine Tri.of (by decide +kernel) (Nat.le_of_ble_eq_true rfl) ?_
  refine exS rfl 6 _ _ _ _ _ _ ?_
  simp (disch := first | omega | (simp only [gs_new, gs_put] <;> omega)) only [exB, Nat.reduceAdd, Nat.reduceSub, Nat.reduceMul, Nat.reduceLeDiff, Nat.reduceLT, Nat.reduceEqDiff, Nat.reduceBEq, Int.reduceAdd, Int.reduceSub, Int.reduceMul, Int.reduceNeg, Int.reduceToNat, Int.reduceLE, Int.reduceLT, Int.reduceEq, Int.reduceGE, Int.reduceGT, ↓reduceIte, reduceCtorEq, gm_pe, gm_pn, gc_put, gl_put, gs_put, exists_eq_left', exists_eq_left, gs_new, gc_ne, gc_nn, gl_ne, gl_nn, gm_ne, gm_nn, cd_X7_compareTo, h.2.1, h'.2.1]
  refine gCall.of (c_compareTo2 h h') (by decide) (by first | omega | decide) (by first | omega | decide) ?_
  rintro r G' ⟨rfl, rfl⟩
  refine exS rfl 4 _ _ _ _ _ _ ?_
  simp (disch := first | omega | (simp only [gs_new, gs_put] <;> omega)) only [exB, Nat.reduceAdd, Nat.reduceSub, Nat.reduceMul, Nat.reduceLeDiff, Nat.reduceLT, Nat.reduceEqDiff, Nat.reduceBEq, Int.reduceAdd, Int.reduceSub, Int.reduceMul, Int.reduceNeg, Int.reduceToNat, Int.reduceLE, Int.reduceLT, Int.reduceEq, Int.reduceGE, Int.reduceGT, ↓reduceIte, reduceCtorEq, gm_pe, gm_pn, gc_put, gl_put, gs_put, exists_eq_left', exists_eq_left, gs_new, gc_ne, gc_nn, gl_ne, gl_nn, gm_ne, gm_nn, cd_X7_compareTo]
theorem c_above {a : Nat} {z : Int} (h : isCell G a z) : Tri X 3 Y_X7_above [.ref a] 1 1 G (fun r G' => r = some (.ref (gs G)) ∧ G' = nCell G ((z + 81) % 162)) := by
  refine Tri.of (by decide +kernel) (Nat.le_of_ble_eq_true rfl) ?_
  refine exS rfl 6 _ _ _ _ _ _ ?_
  simp (disch := first | omega | (simp only [gs_new, gs_put] <;> omega)) only [exB, Nat.reduceAdd, Nat.reduceSub, Nat.reduceMul, Nat.reduceLeDiff, Nat.reduceLT, Nat.reduceEqDiff, Nat.reduceBEq, Int.reduceAdd, Int.reduceSub, Int.reduceMul, Int.reduceNeg, Int.reduceToNat, Int.reduceLE, Int.reduceLT, Int.reduceEq, Int.reduceGE, Int.reduceGT, ↓reduceIte, reduceCtorEq, gm_pe, gm_pn, gc_put, gl_put, gs_put, exists_eq_left', exists_eq_left, gs_new, gc_ne, gc_nn, gl_ne, gl_nn, gm_ne, gm_nn, cd_X7_above, gc_nn h.1, gm_nn h.1, h.2.1, h.2.2.1]
  refine gCall.of (x_over h.2.2.2) (by decide) (by first | omega | decide) (by first | omega | decide) ?_
  rintro r G' ⟨rfl, rfl⟩
  refine exS rfl 4 _ _ _ _ _ _ ?_
  simp (disch := first | omega | (simp only [gs_new, gs_put] <;> omega)) only [exB, Nat.reduceAdd, Nat.reduceSub, Nat.reduceMul, Nat.reduceLeDiff, Nat.reduceLT, Nat.reduceEqDiff, Nat.reduceBEq, Int.reduceAdd, Int.reduceSub, Int.reduceMul, Int.reduceNeg, Int.reduceToNat, Int.reduceLE, Int.reduceLT, Int.reduceEq, Int.reduceGE, Int.reduceGT, ↓reduceIte, reduceCtorEq, gm_pe, gm_pn, gc_put, gl_put, gs_put, exists_eq_left', exists_eq_left, gs_new, gc_ne, gc_nn, gl_ne, gl_nn, gm_ne, gm_nn, cd_X7_above, gc_ne]
  refine gCall.of (c_init gc_ne) (by decide) (by first | omega | decide) (by first | omega | decide) ?_
  rintro r G' ⟨rfl, rfl⟩
  refine exS rfl 4 _ _ _ _ _ _ ?_
  simp (disch := first | omega | (simp only [gs_new, gs_put] <;> omega)) only [exB, Nat.reduceAdd, Nat.reduceSub, Nat.reduceMul, Nat.reduceLeDiff, Nat.reduceLT, Nat.reduceEqDiff, Nat.reduceBEq, Int.reduceAdd, Int.reduceSub, Int.reduceMul, Int.reduceNeg, Int.reduceToNat, Int.reduceLE, Int.reduceLT, Int.reduceEq, Int.reduceGE, Int.reduceGT, ↓reduceIte, reduceCtorEq, gm_pe, gm_pn, gc_put, gl_put, gs_put, exists_eq_left', exists_eq_left, gs_new, gc_ne, gc_nn, gl_ne, gl_nn, gm_ne, gm_nn, cd_X7_above]
  exact rfl
/-- the hash of a cell's number -/
theorem hash_c : ∀ n : Fin 162, (Int32.ofNat n.val ^^^ (((Int32.ofNat n.val).toUInt32 >>> ((Int32.ofInt 16).toUInt32 &&& Int32.toUInt32 31)).toInt32)) = Int32.ofNat n.val := by decide +kernel
theorem j_hash {a : Nat} {z : Int} (h : isCell G a z) : Tri X 2 Y_J4_hash [.ref a] 0 0 G (fun r G' => r = some (.int (iI z)) ∧ G' = G) := by
  refine Tri.of (by decide +kernel) (Nat.le_of_ble_eq_true rfl) ?_
  refine exS rfl 6 _ _ _ _ _ _ ?_
  simp (disch := first | omega | (simp only [gs_new, gs_put] <;> omega)) only [exB, Nat.reduceAdd, Nat.reduceSub, Nat.reduceMul, Nat.reduceLeDiff, Nat.reduceLT, Nat.reduceEqDiff, Nat.reduceBEq, Int.reduceAdd, Int.reduceSub, Int.reduceMul, Int.reduceNeg, Int.reduceToNat, Int.reduceLE, Int.reduceLT, Int.reduceEq, Int.reduceGE, Int.reduceGT, ↓reduceIte, reduceCtorEq, gm_pe, gm_pn, gc_put, gl_put, gs_put, exists_eq_left', exists_eq_left, gs_new, gc_ne, gc_nn, gl_ne, gl_nn, gm_ne, gm_nn, cd_J4_hash, h.2.1]
  refine gCall.of (c_hash h) (by decide) (by first | omega | decide) (by first | omega | decide) ?_
  rintro r G' ⟨rfl, rfl⟩
  refine exS rfl 10 _ _ _ _ _ _ ?_
  simp (disch := first | omega | (simp only [gs_new, gs_put] <;> omega)) only [exB, Nat.reduceAdd, Nat.reduceSub, Nat.reduceMul, Nat.reduceLeDiff, Nat.reduceLT, Nat.reduceEqDiff, Nat.reduceBEq, Int.reduceAdd, Int.reduceSub, Int.reduceMul, Int.reduceNeg, Int.reduceToNat, Int.reduceLE, Int.reduceLT, Int.reduceEq, Int.reduceGE, Int.reduceGT, ↓reduceIte, reduceCtorEq, gm_pe, gm_pn, gc_put, gl_put, gs_put, exists_eq_left', exists_eq_left, gs_new, gc_ne, gc_nn, gl_ne, gl_nn, gm_ne, gm_nn, cd_J4_hash]
  have h1 := h.2.2.2
  have := hash_c ⟨z.toNat, by omega⟩
  rw [show Int32.ofNat z.toNat = iI z by rw [iI_of]; congr 1; omega] at this
  exact congrArg (fun x => some (Value.int x)) this
end
