/-! THE MODEL 12: dues, victims; a wire is lost, is laid -/
set_option maxRecDepth 100000
set_option maxHeartbeats 4000000
theorem dueN_b {N : Int → Int} {l : List Int} {m : Int} (h1 : 0 ≤ N 1 ∧ N 1 ≤ 50) (h2 : 0 ≤ N (169 + 9 * m + 3) ∧ N (169 + 9 * m + 3) ≤ 9) : 0 ≤ dueN N l m ∧ dueN N l m ≤ 9558 := by
  unfold dueN
  have ht := thr_b (N := N) (l := l) (m := m)
  refine ⟨Int.mul_nonneg ht.1 (by omega), ?_⟩
  have := Int.mul_le_mul ht.2 (show N 1 + N (169 + 9 * m + 3) ≤ 59 by omega) (by omega) (by omega)
  omega
theorem sumI_bb {f : Int → Int} {b : Int} : ∀ n : Nat, (∀ i : Nat, i < n → 0 ≤ f i ∧ f i ≤ b) → 0 ≤ sumI f n ∧ sumI f n ≤ n * b
  | 0, _ => by simp [sumI]
  | n + 1, h => by
    have h1 := sumI_bb n (fun i hi => h i (by omega))
    have h2 := h n (by omega)
    show 0 ≤ sumI f n + f n ∧ sumI f n + f n ≤ _
    rw [show ((n + 1 : Nat) : Int) = (n : Int) + 1 from by omega, Int.add_mul, Int.one_mul]
    omega
theorem vicS_b {f : Int → Int} : ∀ k : Nat, 0 ≤ vicS f k ∧ vicS f k < 2 ^ k
  | 0 => by simp [vicS]
  | k + 1 => by
    have := vicS_b (f := f) k
    show 0 ≤ vicS f k + (if 0 < f k then 2 ^ k else 0) ∧ vicS f k + (if 0 < f k then 2 ^ k else 0) < 2 ^ (k + 1)
    rw [Int.pow_succ]
    split <;> omega
theorem or_6 : ∀ n : Fin 6, ∀ a : Fin 64, a.val < 2 ^ n.val → Int32.ofNat a.val ||| (Int32.ofNat 1 <<< Int32.ofNat n.val) = Int32.ofNat (a.val + 2 ^ n.val) := by decide +kernel
theorem iI_or6 {a n : Int} (hn : 0 ≤ n ∧ n < 6) (ha : 0 ≤ a ∧ a < 2 ^ n.toNat) : iI a ||| (iI 1 <<< iI n) = iI (a + 2 ^ n.toNat) := by
  have h2 : (2 : Int) ^ n.toNat ≤ 64 := by
    have : n = 0 ∨ n = 1 ∨ n = 2 ∨ n = 3 ∨ n = 4 ∨ n = 5 := by omega
    rcases this with rfl | rfl | rfl | rfl | rfl | rfl <;> decide
  have e2 : ((2 ^ n.toNat : Nat) : Int) = 2 ^ n.toNat := by rw [Int.natCast_pow]; rfl
  have := or_6 ⟨n.toNat, by omega⟩ ⟨a.toNat, by omega⟩ (by show a.toNat < 2 ^ n.toNat; omega)
  simp only [iI_of] at this
  rw [show ((n.toNat : Nat) : Int) = n from by omega, show ((a.toNat : Nat) : Int) = a from by omega, show ((a.toNat + 2 ^ n.toNat : Nat) : Int) = a + 2 ^ n.toNat from by omega] at this
  exact this
theorem and_32 : ∀ n : Fin 32, Int32.ofNat n.val &&& 31 = Int32.ofNat n.val := by decide +kernel
theorem iI_and31 {n : Int} (hn : 0 ≤ n ∧ n < 32) : iI n &&& 31 = iI n := by
  have := and_32 ⟨n.toNat, by omega⟩
  simp only [iI_of] at this
  rw [show ((n.toNat : Nat) : Int) = n from by omega] at this
  exact this
theorem iI_or0 {a : Int} : iI a ||| iI 0 = iI a := by
  show iI a ||| 0 = iI a
  exact Int32.or_zero
def losR (N : Int → Int) (m : Int) (c : Int) : Int → Int := fun j => if 7 ≤ j ∧ j < 7 + c ∧ N j = 1 + m then 0 else N j
/-- a net loses its wire -/
def losN (N : Int → Int) (m : Int) : Int → Int := uN (losR N m 162) (169 + 9 * m + 5) 0
def wirR (N : Int → Int) (m : Int) (l : List Int) : Int → Int := fun j => if (j - 7) ∈ l then (if N j = 11 + m then 11 + m else 1 + m) else N j
/-- a route becomes a wire -/
def wirN (N : Int → Int) (m : Int) (l : List Int) : Int → Int := uN (wirR N m l) (169 + 9 * m + 5) 1
section
variable {X : gX} {G : gH} {o : Nat} {N : Int → Int} {L : List (Int → Int)} {T : List Int} {M : Nat → Int → Int} {V : Nat → Int} {l : List Int}
theorem m_due {m : Int} (hM : MR G o M V) (hl : RtOK M V l) (hm : 0 ≤ m ∧ m < 6) : Tri X 2 Y_X4_due [.ref o, .int (iI m)] 0 0 G (fun r G' => r = some (.int (iI (dueN (M 0) l m))) ∧ G' = G) := by
  refine Tri.of (by decide +kernel) (Nat.le_of_ble_eq_true rfl) ?_
  refine exS rfl 6 _ _ _ _ _ _ ?_
  simp (disch := omega) only [exB, Nat.reduceAdd, Nat.reduceSub, Nat.reduceMul, Nat.reduceLeDiff, Nat.reduceLT, Nat.reduceEqDiff, Nat.reduceBEq, Int.reduceAdd, Int.reduceSub, Int.reduceMul, Int.reduceNeg, Int.reduceToNat, Int.reduceLE, Int.reduceLT, Int.reduceEq, Int.reduceGE, Int.reduceGT, ↓reduceIte, reduceCtorEq, gm_pe, gm_pn, gc_put, gl_put, gs_put, cd_X4_due, hM.f, iI_rt]
  refine gCall.of (m_through hM hl (m := m) (by omega)) (by decide) (by first | omega | decide) (by first | omega | decide) ?_
  rintro r G' ⟨rfl, rfl⟩
  refine exS rfl 8 _ _ _ _ _ _ ?_
  simp (disch := omega) only [exB, Nat.reduceAdd, Nat.reduceSub, Nat.reduceMul, Nat.reduceLeDiff, Nat.reduceLT, Nat.reduceEqDiff, Nat.reduceBEq, Int.reduceAdd, Int.reduceSub, Int.reduceMul, Int.reduceNeg, Int.reduceToNat, Int.reduceLE, Int.reduceLT, Int.reduceEq, Int.reduceGE, Int.reduceGT, ↓reduceIte, reduceCtorEq, gm_pe, gm_pn, gc_put, gl_put, gs_put, cd_X4_due, hM.f, iI_rt]
  refine gCall.of (m_of hM (n := m) (w := 3) (by omega)) (by decide) (by first | omega | decide) (by first | omega | decide) ?_
  rintro r G' ⟨rfl, rfl⟩
  refine exS rfl 8 _ _ _ _ _ _ ?_
  simp (disch := omega) only [exB, Nat.reduceAdd, Nat.reduceSub, Nat.reduceMul, Nat.reduceLeDiff, Nat.reduceLT, Nat.reduceEqDiff, Nat.reduceBEq, Int.reduceAdd, Int.reduceSub, Int.reduceMul, Int.reduceNeg, Int.reduceToNat, Int.reduceLE, Int.reduceLT, Int.reduceEq, Int.reduceGE, Int.reduceGT, ↓reduceIte, reduceCtorEq, gm_pe, gm_pn, gc_put, gl_put, gs_put, cd_X4_due, hM.f, iI_rt]
  rfl
theorem m_duesOf (hM : MR G o M V) (hl : RtOK M V l) (h1 : 0 ≤ M 0 1 ∧ M 0 1 ≤ 50) (h5 : 0 ≤ M 0 5 ∧ M 0 5 ≤ 6) (h2 : ∀ m, 0 ≤ m → m < 6 → 0 ≤ M 0 (169 + 9 * m + 3) ∧ M 0 (169 + 9 * m + 3) ≤ 9) : Tri X 3 Y_X4_duesOf [.ref o] 0 0 G (fun r G' => r = some (.int (iI (duesN (M 0) l))) ∧ G' = G) := by
  refine Tri.of (by decide +kernel) (Nat.le_of_ble_eq_true rfl) ?_
  generalize hQ : (fun (r : Option Value) G' => r = some (.int (iI (duesN (M 0) l))) ∧ G' = G) = Q
  refine excS rfl 4 4 _ _ _ _ _ _ ?_
  simp (disch := omega) only [exB, Nat.reduceAdd, Nat.reduceSub, Nat.reduceMul, Nat.reduceLeDiff, Nat.reduceLT, Nat.reduceEqDiff, Nat.reduceBEq, Int.reduceAdd, Int.reduceSub, Int.reduceMul, Int.reduceNeg, Int.reduceToNat, Int.reduceLE, Int.reduceLT, Int.reduceEq, Int.reduceGE, Int.reduceGT, ↓reduceIte, reduceCtorEq, gm_pe, gm_pn, gc_put, gl_put, gs_put, cd_X4_duesOf]
  refine Wp.wk' [some (.ref o), some (.int (iI (sumI (dueN (M 0) l) (0 : Int).toNat))), some (.int (iI 0))] ?_ (by simp [wkL, sumI])
  refine up0 (W := fun i => Wp X Y_X4_duesOf 3 Q 0 0 G 4 [some (.ref o), some (.int (iI (sumI (dueN (M 0) l) i.toNat))), some (.int (iI i))] []) (hi := M 0 5) 0 ?_ ?_ 0 (by decide) h5.1
  · intro i i0 i1 ih
    have bs := sumI_bb (f := dueN (M 0) l) (b := 9558) i.toNat (fun j hj => dueN_b h1 (h2 j (by omega) (by omega)))
    have bd := dueN_b (N := M 0) (l := l) (m := i) h1 (h2 i (by omega) (by omega))
    have bb : ((i.toNat : Nat) : Int) * 9558 ≤ 6 * 9558 := by omega
    rw [sumI_s i0] at ih
    refine excS rfl 4 12 _ _ _ _ _ _ ?_
    simp (disch := omega) only [exB, Nat.reduceAdd, Nat.reduceSub, Nat.reduceMul, Nat.reduceLeDiff, Nat.reduceLT, Nat.reduceEqDiff, Nat.reduceBEq, Int.reduceAdd, Int.reduceSub, Int.reduceMul, Int.reduceNeg, Int.reduceToNat, Int.reduceLE, Int.reduceLT, Int.reduceEq, Int.reduceGE, Int.reduceGT, ↓reduceIte, reduceCtorEq, gm_pe, gm_pn, gc_put, gl_put, gs_put, cd_X4_duesOf, hM.f, iI_rt]
    refine ⟨fun h => absurd h (by omega), fun _ => ?_⟩
    refine gCall.of (m_due hM hl (m := i) (by omega)) (by decide) (by first | omega | decide) (by first | omega | decide) ?_
    rintro r G' ⟨rfl, rfl⟩
    refine excS rfl 4 12 _ _ _ _ _ _ ?_
    simp (disch := omega) only [exB, Nat.reduceAdd, Nat.reduceSub, Nat.reduceMul, Nat.reduceLeDiff, Nat.reduceLT, Nat.reduceEqDiff, Nat.reduceBEq, Int.reduceAdd, Int.reduceSub, Int.reduceMul, Int.reduceNeg, Int.reduceToNat, Int.reduceLE, Int.reduceLT, Int.reduceEq, Int.reduceGE, Int.reduceGT, ↓reduceIte, reduceCtorEq, gm_pe, gm_pn, gc_put, gl_put, gs_put, cd_X4_duesOf, hM.f, iI_rt]
    exact ih
  · refine excS rfl 4 12 _ _ _ _ _ _ ?_
    subst hQ
    simp (disch := omega) only [exB, Nat.reduceAdd, Nat.reduceSub, Nat.reduceMul, Nat.reduceLeDiff, Nat.reduceLT, Nat.reduceEqDiff, Nat.reduceBEq, Int.reduceAdd, Int.reduceSub, Int.reduceMul, Int.reduceNeg, Int.reduceToNat, Int.reduceLE, Int.reduceLT, Int.reduceEq, Int.reduceGE, Int.reduceGT, ↓reduceIte, reduceCtorEq, gm_pe, gm_pn, gc_put, gl_put, gs_put, cd_X4_duesOf, hM.f, iI_rt]
    exact ⟨fun _ => rfl, fun z => absurd (Int.le_refl _) z⟩
theorem m_victimsOf (hM : MR G o M V) (hl : RtOK M V l) (h5 : 0 ≤ M 0 5 ∧ M 0 5 ≤ 6) : Tri X 3 Y_X4_victimsOf [.ref o] 0 0 G (fun r G' => r = some (.int (iI (vicN (M 0) l))) ∧ G' = G) := by
  refine Tri.of (by decide +kernel) (Nat.le_of_ble_eq_true rfl) ?_
  generalize hQ : (fun (r : Option Value) G' => r = some (.int (iI (vicN (M 0) l))) ∧ G' = G) = Q
  refine excS rfl 4 4 _ _ _ _ _ _ ?_
  simp (disch := omega) only [exB, Nat.reduceAdd, Nat.reduceSub, Nat.reduceMul, Nat.reduceLeDiff, Nat.reduceLT, Nat.reduceEqDiff, Nat.reduceBEq, Int.reduceAdd, Int.reduceSub, Int.reduceMul, Int.reduceNeg, Int.reduceToNat, Int.reduceLE, Int.reduceLT, Int.reduceEq, Int.reduceGE, Int.reduceGT, ↓reduceIte, reduceCtorEq, gm_pe, gm_pn, gc_put, gl_put, gs_put, cd_X4_victimsOf]
  refine Wp.wk' [some (.ref o), some (.int (iI (vicS (thr (M 0) l) (0 : Int).toNat))), some (.int (iI 0))] ?_ (by simp [wkL, vicS])
  refine up0 (W := fun i => Wp X Y_X4_victimsOf 3 Q 0 0 G 4 [some (.ref o), some (.int (iI (vicS (thr (M 0) l) i.toNat))), some (.int (iI i))] []) (hi := M 0 5) 0 ?_ ?_ 0 (by decide) h5.1
  · intro i i0 i1 ih
    have bs := vicS_b (f := thr (M 0) l) i.toNat
    have e : vicS (thr (M 0) l) (i + 1).toNat = vicS (thr (M 0) l) i.toNat + if 0 < thr (M 0) l i then 2 ^ i.toNat else 0 := by
      rw [show (i + 1).toNat = i.toNat + 1 from by omega]
      show vicS (thr (M 0) l) i.toNat + (if 0 < thr (M 0) l (i.toNat : Int) then 2 ^ i.toNat else 0) = _
      rw [show ((i.toNat : Nat) : Int) = i from by omega]
    rw [e] at ih
    have bt := thr_b (N := M 0) (l := l) (m := i)
    refine excS rfl 4 12 _ _ _ _ _ _ ?_
    simp (disch := omega) only [exB, Nat.reduceAdd, Nat.reduceSub, Nat.reduceMul, Nat.reduceLeDiff, Nat.reduceLT, Nat.reduceEqDiff, Nat.reduceBEq, Int.reduceAdd, Int.reduceSub, Int.reduceMul, Int.reduceNeg, Int.reduceToNat, Int.reduceLE, Int.reduceLT, Int.reduceEq, Int.reduceGE, Int.reduceGT, ↓reduceIte, reduceCtorEq, gm_pe, gm_pn, gc_put, gl_put, gs_put, cd_X4_victimsOf, hM.f, iI_rt]
    refine ⟨fun h => absurd h (by omega), fun _ => ?_⟩
    refine gCall.of (m_through hM hl (m := i) (by omega)) (by decide) (by first | omega | decide) (by first | omega | decide) ?_
    rintro r G' ⟨rfl, rfl⟩
    refine excS rfl 4 16 _ _ _ _ _ _ ?_
    simp (disch := omega) only [exB, Nat.reduceAdd, Nat.reduceSub, Nat.reduceMul, Nat.reduceLeDiff, Nat.reduceLT, Nat.reduceEqDiff, Nat.reduceBEq, Int.reduceAdd, Int.reduceSub, Int.reduceMul, Int.reduceNeg, Int.reduceToNat, Int.reduceLE, Int.reduceLT, Int.reduceEq, Int.reduceGE, Int.reduceGT, ↓reduceIte, reduceCtorEq, gm_pe, gm_pn, gc_put, gl_put, gs_put, cd_X4_victimsOf, hM.f, iI_rt]
    refine ⟨fun z => ?_, fun z => ?_⟩
    · rw [if_neg (by omega), Int.add_zero] at ih
      rw [iI_or0]; exact ih
    · rw [if_pos (by omega)] at ih
      rw [iI_and31 (by omega), iI_or6 (by omega) bs]; exact ih
  · refine excS rfl 4 12 _ _ _ _ _ _ ?_
    subst hQ
    simp (disch := omega) only [exB, Nat.reduceAdd, Nat.reduceSub, Nat.reduceMul, Nat.reduceLeDiff, Nat.reduceLT, Nat.reduceEqDiff, Nat.reduceBEq, Int.reduceAdd, Int.reduceSub, Int.reduceMul, Int.reduceNeg, Int.reduceToNat, Int.reduceLE, Int.reduceLT, Int.reduceEq, Int.reduceGE, Int.reduceGT, ↓reduceIte, reduceCtorEq, gm_pe, gm_pn, gc_put, gl_put, gs_put, cd_X4_victimsOf, hM.f, iI_rt]
    exact ⟨fun _ => rfl, fun z => absurd (Int.le_refl _) z⟩
theorem uM_0s {M : Nat → Int → Int} {f : Int → Int} {z v : Int} : uM (setF M 0 f) 0 z v = setF M 0 (uN f z v) := uM_set
theorem losR_s {N : Int → Int} {m c : Int} (h0 : 0 ≤ c) : uN (losR N m c) (7 + c) (if N (7 + c) = 1 + m then 0 else N (7 + c)) = losR N m (c + 1) := by
  funext j
  unfold uN losR
  by_cases h : j = 7 + c
  · subst h
    rw [if_pos rfl]
    split
    · next q => rw [if_pos ⟨by omega, by omega, q⟩]
    · next q => rw [if_neg (fun z => q z.2.2)]
  · rw [if_neg h]
    split
    · next q => rw [if_pos ⟨q.1, by omega, q.2.2⟩]
    · next q => rw [if_neg (fun z => q ⟨z.1, by omega, z.2.2⟩)]
theorem m_loses {m : Int} (hM : MR G o M V) (hm : 0 ≤ m ∧ m < 6) : Tri X 1 Y_X4_loses [.ref o, .int (iI m)] 0 0 G (fun r G' => r = none ∧ MK G G' o ∧ MR G' o (setF M 0 (losN (M 0) m)) V) := by
  refine Tri.of (by decide +kernel) (Nat.le_of_ble_eq_true rfl) ?_
  generalize hQ : (fun (r : Option Value) G' => r = none ∧ MK G G' o ∧ MR G' o (setF M 0 (losN (M 0) m)) V) = Q
  refine excS rfl 2 4 _ _ _ _ _ _ ?_
  simp (disch := omega) only [exB, Nat.reduceAdd, Nat.reduceSub, Nat.reduceMul, Nat.reduceLeDiff, Nat.reduceLT, Nat.reduceEqDiff, Nat.reduceBEq, Int.reduceAdd, Int.reduceSub, Int.reduceMul, Int.reduceNeg, Int.reduceToNat, Int.reduceLE, Int.reduceLT, Int.reduceEq, Int.reduceGE, Int.reduceGT, ↓reduceIte, reduceCtorEq, gm_pe, gm_pn, gc_put, gl_put, gs_put, cd_X4_loses]
  have e0 : losR (M 0) m 0 = M 0 := by funext j; unfold losR; rw [if_neg (by omega)]
  refine up1 (σ := gH) (W := fun c G' => Wp X Y_X4_loses 1 Q 0 0 G' 2 [some (.ref o), some (.int (iI m)), some (.int (iI c))] []) (P := fun c G' => MR G' o (setF M 0 (losR (M 0) m c)) V ∧ MK G G' o) (hi := 162) 0 ?_ ?_ 0 G (by decide) (by decide) ⟨by rw [e0, setF_id]; exact hM, MK.refl⟩
  · rintro c G' c0 c1 ⟨hR, hk⟩ ih
    have z0 : setF M 0 (losR (M 0) m c) 0 = losR (M 0) m c := setF_s
    have zc : losR (M 0) m c (7 + c) = M 0 (7 + c) := by unfold losR; rw [if_neg (by omega)]
    have bc := hM.bA (z := 7 + c) (by omega) (by omega)
    have st : ∀ v, v = (if M 0 (7 + c) = 1 + m then 0 else M 0 (7 + c)) → Wp X Y_X4_loses 1 Q 0 0 (gput G' (o + 1) (7 + c).toNat (.int (iI v))) 2 [some (.ref o), some (.int (iI m)), some (.int (iI (c + 1)))] [] := by
      intro v hv
      have h4 := hR.putA 0 (z := 7 + c) (v := v) (by decide) (by omega) (by rw [hv]; split <;> omega)
      rw [uM_0s, hv, losR_s c0] at h4
      rw [hv]
      exact ih _ ⟨h4, hk.put (a := o + 1) (by omega)⟩
    refine excS rfl 2 40 _ _ _ _ _ _ ?_
    simp (disch := omega) only [exB, Nat.reduceAdd, Nat.reduceSub, Nat.reduceMul, Nat.reduceLeDiff, Nat.reduceLT, Nat.reduceEqDiff, Nat.reduceBEq, Int.reduceAdd, Int.reduceSub, Int.reduceMul, Int.reduceNeg, Int.reduceToNat, Int.reduceLE, Int.reduceLT, Int.reduceEq, Int.reduceGE, Int.reduceGT, ↓reduceIte, reduceCtorEq, gm_pe, gm_pn, gc_put, gl_put, gs_put, cd_X4_loses, hR.f, iI_rt, z0, zc]
    refine ⟨fun h => absurd h (by omega), fun _ => ?_⟩
    refine ⟨by omega, by omega, fun h => ⟨by omega, by omega, by omega, by omega, st _ (by rw [if_neg h])⟩, fun h => ⟨by omega, by omega, st _ (by rw [if_pos (Classical.not_not.mp h)])⟩⟩
  · rintro G' ⟨hR, hk⟩
    refine exS rfl 20 _ _ _ _ _ _ ?_
    simp (disch := omega) only [exB, Nat.reduceAdd, Nat.reduceSub, Nat.reduceMul, Nat.reduceLeDiff, Nat.reduceLT, Nat.reduceEqDiff, Nat.reduceBEq, Int.reduceAdd, Int.reduceSub, Int.reduceMul, Int.reduceNeg, Int.reduceToNat, Int.reduceLE, Int.reduceLT, Int.reduceEq, Int.reduceGE, Int.reduceGT, ↓reduceIte, reduceCtorEq, gm_pe, gm_pn, gc_put, gl_put, gs_put, cd_X4_loses, hR.f, iI_rt]
    refine ⟨by omega, by omega, ?_⟩
    have h4 := hR.putA 0 (z := 169 + 9 * m + 5) (v := 0) (by decide) (by omega) (by decide)
    rw [uM_0s] at h4
    subst hQ
    exact ⟨rfl, hk.put (a := o + 1) (by omega), h4⟩
theorem wirR_s {N : Int → Int} {m x : Int} {l : List Int} : uN (wirR N m l) (7 + x) (if wirR N m l (7 + x) = 11 + m then 11 + m else 1 + m) = wirR N m (l ++ [x]) := by
  funext j
  unfold uN wirR
  by_cases h : j = 7 + x
  · subst h
    have e : 7 + x - 7 = x := by omega
    rw [if_pos rfl, e]
    rw [if_pos (List.mem_append.mpr (Or.inr (List.mem_singleton.mpr rfl)))]
    by_cases h2 : N (7 + x) = 11 + m
    · simp only [h2, if_true, ite_self]
    · rw [if_neg h2]
      by_cases h3 : x ∈ l
      · rw [if_pos h3, if_neg (by omega)]
      · rw [if_neg h3, if_neg h2]
  · rw [if_neg h]
    by_cases h3 : (j - 7) ∈ l
    · rw [if_pos h3, if_pos (List.mem_append.mpr (Or.inl h3))]
    · rw [if_neg h3, if_neg]
      intro q
      rcases List.mem_append.mp q with q | q
      · exact h3 q
      · have := List.mem_singleton.mp q; omega
theorem m_wires {m : Int} (hM : MR G o M V) (hl : RtOK M V l) (hm : 0 ≤ m ∧ m < 6) : Tri X 1 Y_X4_wires [.ref o, .int (iI m)] 0 0 G (fun r G' => r = none ∧ MK G G' o ∧ MR G' o (setF M 0 (wirN (M 0) m l)) V) := by
  obtain ⟨hl1, hl2, hl3, hl4⟩ := hl
  refine Tri.of (by decide +kernel) (Nat.le_of_ble_eq_true rfl) ?_
  generalize hQ : (fun (r : Option Value) G' => r = none ∧ MK G G' o ∧ MR G' o (setF M 0 (wirN (M 0) m l)) V) = Q
  refine excS rfl 2 4 _ _ _ _ _ _ ?_
  simp (disch := omega) only [exB, Nat.reduceAdd, Nat.reduceSub, Nat.reduceMul, Nat.reduceLeDiff, Nat.reduceLT, Nat.reduceEqDiff, Nat.reduceBEq, Int.reduceAdd, Int.reduceSub, Int.reduceMul, Int.reduceNeg, Int.reduceToNat, Int.reduceLE, Int.reduceLT, Int.reduceEq, Int.reduceGE, Int.reduceGT, ↓reduceIte, reduceCtorEq, gm_pe, gm_pn, gc_put, gl_put, gs_put, cd_X4_wires]
  have e0 : wirR (M 0) m (l.take (0 : Int).toNat) = M 0 := by funext j; unfold wirR; simp
  refine up1 (σ := gH) (W := fun c G' => Wp X Y_X4_wires 1 Q 0 0 G' 2 [some (.ref o), some (.int (iI m)), some (.int (iI c))] []) (P := fun c G' => MR G' o (setF M 0 (wirR (M 0) m (l.take c.toNat))) V ∧ MK G G' o) (hi := l.length) 0 ?_ ?_ 0 G (by decide) (by omega) ⟨by rw [e0, setF_id]; exact hM, MK.refl⟩
  · rintro c G' c0 c1 ⟨hR, hk⟩ ih
    have z0 : setF M 0 (wirR (M 0) m (l.take c.toNat)) 0 = wirR (M 0) m (l.take c.toNat) := setF_s
    have zA : setF M 0 (wirR (M 0) m (l.take c.toNat)) 10 = M 10 := setF_n (by decide)
    have hx := hl4 c.toNat (l[c.toNat]'(by omega)) (List.getElem?_eq_getElem _)
    rw [show ((c.toNat : Nat) : Int) = c from by omega] at hx
    have hxc := hl3 (l[c.toNat]'(by omega)) (List.getElem_mem _)
    have et : l.take (c + 1).toNat = l.take c.toNat ++ [l[c.toNat]'(by omega)] := by
      rw [show (c + 1).toNat = c.toNat + 1 from by omega]
      rw [List.take_add_one, List.getElem?_eq_getElem (by omega)]; rfl
    generalize l[c.toNat]'(by omega) = x at hx hxc et
    obtain ⟨x0, x1⟩ := hxc
    have bc := hR.bA (z := 7 + x) (by omega) (by omega)
    rw [z0] at bc
    have st : ∀ v, v = (if wirR (M 0) m (l.take c.toNat) (7 + x) = 11 + m then 11 + m else 1 + m) → Wp X Y_X4_wires 1 Q 0 0 (gput G' (o + 1) (7 + x).toNat (.int (iI v))) 2 [some (.ref o), some (.int (iI m)), some (.int (iI (c + 1)))] [] := by
      intro v hv
      have h4 := hR.putA 0 (z := 7 + x) (v := v) (by decide) (by omega) (by rw [hv]; split <;> omega)
      rw [uM_0s, hv, wirR_s, ← et] at h4
      rw [hv]
      exact ih _ ⟨h4, hk.put (a := o + 1) (by omega)⟩
    refine excS rfl 2 50 _ _ _ _ _ _ ?_
    simp (disch := omega) only [exB, Nat.reduceAdd, Nat.reduceSub, Nat.reduceMul, Nat.reduceLeDiff, Nat.reduceLT, Nat.reduceEqDiff, Nat.reduceBEq, Int.reduceAdd, Int.reduceSub, Int.reduceMul, Int.reduceNeg, Int.reduceToNat, Int.reduceLE, Int.reduceLT, Int.reduceEq, Int.reduceGE, Int.reduceGT, ↓reduceIte, reduceCtorEq, gm_pe, gm_pn, gc_put, gl_put, gs_put, cd_X4_wires, hR.f, iI_rt, z0, zA, hx, hl1]
    refine ⟨fun z => absurd z (by omega), fun _ => ⟨by omega, by omega, by omega, by omega, by omega, by omega, fun h => ⟨by omega, by omega, st _ (by rw [if_neg h])⟩, fun h => ⟨by omega, by omega, st _ (by rw [if_pos (Classical.not_not.mp h)])⟩⟩⟩
  · rintro G' ⟨hR, hk⟩
    have et : l.take ((l.length : Int)).toNat = l := by rw [Int.toNat_natCast]; exact List.take_length
    rw [et] at hR
    refine exS rfl 20 _ _ _ _ _ _ ?_
    simp (disch := omega) only [exB, Nat.reduceAdd, Nat.reduceSub, Nat.reduceMul, Nat.reduceLeDiff, Nat.reduceLT, Nat.reduceEqDiff, Nat.reduceBEq, Int.reduceAdd, Int.reduceSub, Int.reduceMul, Int.reduceNeg, Int.reduceToNat, Int.reduceLE, Int.reduceLT, Int.reduceEq, Int.reduceGE, Int.reduceGT, ↓reduceIte, reduceCtorEq, gm_pe, gm_pn, gc_put, gl_put, gs_put, cd_X4_wires, hR.f, iI_rt, hl1]
    refine ⟨fun _ => ⟨by omega, by omega, ?_⟩, fun z => absurd (Int.le_refl _) z⟩
    have h4 := hR.putA 0 (z := 169 + 9 * m + 5) (v := 1) (by decide) (by omega) (by decide)
    rw [uM_0s] at h4
    subst hQ
    exact ⟨rfl, hk.put (a := o + 1) (by omega), h4⟩
end
