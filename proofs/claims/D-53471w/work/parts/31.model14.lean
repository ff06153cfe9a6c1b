/-! THE MODEL 14: lays, rips, passes; claims are told of, appeals -/
set_option maxRecDepth 100000
set_option maxHeartbeats 4000000
/-- a net's numbers, a claim's numbers are in bounds -/
def NetB (K : Int) (N : Int → Int) (m : Int) : Prop := (0 ≤ N (169 + 9 * m + 0) ∧ N (169 + 9 * m + 0) ≤ 80) ∧ (0 ≤ N (169 + 9 * m + 1) ∧ N (169 + 9 * m + 1) ≤ 80) ∧ (-1 ≤ N (169 + 9 * m + 2) ∧ N (169 + 9 * m + 2) ≤ 80) ∧ (0 ≤ N (169 + 9 * m + 3) ∧ N (169 + 9 * m + 3) ≤ 9) ∧ (0 ≤ N (169 + 9 * m + 4) ∧ N (169 + 9 * m + 4) ≤ K) ∧ (0 ≤ N (169 + 9 * m + 5) ∧ N (169 + 9 * m + 5) ≤ 1)
def ClB (K : Int) (N : Int → Int) (c : Int) : Prop := (0 ≤ N (223 + 13 * c + 0) ∧ N (223 + 13 * c + 0) ≤ 5) ∧ (0 ≤ N (223 + 13 * c + 1) ∧ N (223 + 13 * c + 1) ≤ 5) ∧ (0 ≤ N (223 + 13 * c + 2) ∧ N (223 + 13 * c + 2) ≤ 162) ∧ (0 ≤ N (223 + 13 * c + 3) ∧ N (223 + 13 * c + 3) ≤ 81) ∧ (0 ≤ N (223 + 13 * c + 4) ∧ N (223 + 13 * c + 4) ≤ 10000) ∧ (0 ≤ N (223 + 13 * c + 5) ∧ N (223 + 13 * c + 5) ≤ 2) ∧ (0 ≤ N (223 + 13 * c + 6) ∧ N (223 + 13 * c + 6) ≤ K) ∧ ∀ k, 0 ≤ k → k < 6 → 0 ≤ N (223 + 13 * c + (7 + k)) ∧ N (223 + 13 * c + (7 + k)) < 134217728
/-- the row's numbers are in bounds -/
def RowB (K : Int) (N : Int → Int) : Prop := K ≤ 100000000 ∧ NumOK N ∧ ((1 ≤ N 0 ∧ N 0 ≤ 20) ∧ (0 ≤ N 1 ∧ N 1 ≤ 50) ∧ (0 ≤ N 2 ∧ N 2 ≤ 50) ∧ (1 ≤ N 3 ∧ N 3 ≤ 20)) ∧ (0 ≤ N 4 ∧ N 4 ≤ K) ∧ (∀ c, inC c → 0 ≤ N (7 + c) ∧ N (7 + c) ≤ 20) ∧ (∀ m, 0 ≤ m → m < 6 → NetB K N m) ∧ ∀ c, 0 ≤ c → c < 12 → ClB K N c
theorem RowB.rc {K : Int} {N : Int → Int} (h : RowB K N) : RC N := ⟨h.2.2.1.1, h.2.2.1.2.1, fun c c0 c1 => h.2.2.2.2.1 c ⟨c0, c1⟩, fun m m0 m1 => (h.2.2.2.2.2.1 m m0 (by omega)).2.2.2.1⟩
theorem RowB.pins {K : Int} {N : Int → Int} (h : RowB K N) {m : Int} (m0 : 0 ≤ m) (m1 : m < 6) : ∀ k, 0 ≤ k → k < 3 → -1 ≤ N (169 + 9 * m + k) ∧ N (169 + 9 * m + k) ≤ 80 := by
  intro k k0 k1
  obtain ⟨a, b, c, -⟩ := h.2.2.2.2.2.1 m m0 m1
  have : k = 0 ∨ k = 1 ∨ k = 2 := by omega
  rcases this with rfl | rfl | rfl <;> omega
/-- an inner call's answer, and the row it leaves -/
abbrev APost (G : gH) (o : Nat) (M : Nat → Int → Int) (V : Nat → Int) (z : Int) (N' : Int → Int) : Option Value → gH → Prop := fun r G' => r = some (.int (iI z)) ∧ MK G G' o ∧ ∃ M' V', MR G' o M' V' ∧ M' 0 = N' ∧ (∀ f, f ≠ 0 → f ≠ 8 → f ≠ 9 → f ≠ 10 → M' f = M f) ∧ (∀ f, f ≠ 11 → f ≠ 12 → f ≠ 13 → V' f = V f)
abbrev jnd (N : Int → Int) (n : Int) : Prop := N (169 + 9 * n + 5) = 1
def layZ (N : Int → Int) (n : Int) (R : Option (List Int × Int)) : Int := if isN N n then (if jnd N n then -1000002 else match R with
  | none => -1000002
  | some (_, c) => c) else -1000001
def actN (N : Int → Int) : Int → Int := uN N 4 (N 4 + 1)
def layN (N : Int → Int) (n : Int) (R : Option (List Int × Int)) : Int → Int := if isN N n ∧ ¬ jnd N n then match R with
  | none => N
  | some (l, _) => actN (wirN N n l) else N
def ripZ (N : Int → Int) (n : Int) : Int := if isN N n then (if jnd N n then wireC N n else -1000002) else -1000001
def ripN (N : Int → Int) (n : Int) : Int → Int := if isN N n ∧ jnd N n then actN (losN N n) else N
def passZ (N : Int → Int) (a : Int) : Int := if 1 ≤ a ∧ a ≤ 50 then (if N 4 + a > 100000 then -1000003 else N 4 + a) else -1000001
def passN (N : Int → Int) (a : Int) : Int → Int := if (1 ≤ a ∧ a ≤ 50) ∧ ¬ N 4 + a > 100000 then uN N 4 (N 4 + a) else N
def clA (N : Int → Int) (c w : Int) : Int := N (223 + 13 * c + w)
def lossN (N : Int → Int) (c : Int) : Int := N 2 * clA N c 2 + N 0 * clA N c 3
def appC (N : Int → Int) : Int := sumI (fun c => if clA N c 5 = 1 then 1 else 0) (N 6).toNat
def canApp (N : Int → Int) (c : Int) : Prop := clA N c 5 = 0 ∧ N 4 - clA N c 6 ≤ N 3
theorem uM_00 {M : Nat → Int → Int} {f : Nat} {z v : Int} : uM M f z v = setF M f (uN (M f) z v) := by
  funext f' j
  by_cases h : f' = f
  · subst h; simp [uM, setF, uN]
  · simp [uM, setF, h]
theorem loss_b {K : Int} {N : Int → Int} (h : RowB K N) {c : Int} (c0 : 0 ≤ c) (c1 : c < 12) : 0 ≤ lossN N c ∧ lossN N c ≤ 9720 := by
  obtain ⟨-, -, ⟨a0, a1, a2, a3⟩, -, -, -, hC⟩ := h
  obtain ⟨-, -, b2, b3, -⟩ := hC c c0 c1
  unfold lossN clA
  have h1 := Int.mul_le_mul a2.2 b2.2 (by omega) (by omega)
  have h2 := Int.mul_le_mul a0.2 b3.2 (by omega) (by omega)
  have h3 := Int.mul_nonneg a2.1 b2.1
  have h4 := Int.mul_nonneg (show 0 ≤ N 0 by omega) b3.1
  omega
section
variable {X : gX} {G : gH} {o : Nat} {N : Int → Int} {L : List (Int → Int)} {T : List Int} {M : Nat → Int → Int} {V : Nat → Int} {l : List Int} {K : Int}
theorem AP.same {z : Int} (hM : MR G o M V) : APost G o M V z (M 0) (some (.int (iI z))) G := ⟨rfl, MK.refl, M, V, hM, rfl, fun _ _ _ _ _ => rfl, fun _ _ _ _ => rfl⟩
theorem m_lays {n : Int} (hM : MR G o M V) (hB : RowB K (M 0)) (hn : i32 n) : Tri X 6 Y_X4_lays [.ref o, .int (iI n)] 0 0 G (fun r G' => ∃ R, (isN (M 0) n → ¬ jnd (M 0) n → RouteR (M 0) n 0 R) ∧ APost G o M V (layZ (M 0) n R) (layN (M 0) n R) r G') := by
  have h5 := hB.2.1.1
  refine Tri.of (by decide +kernel) (Nat.le_of_ble_eq_true rfl) ?_
  generalize hQ : (fun (r : Option Value) G' => ∃ R, (isN (M 0) n → ¬ jnd (M 0) n → RouteR (M 0) n 0 R) ∧ APost G o M V (layZ (M 0) n R) (layN (M 0) n R) r G') = Q
  refine exS rfl 6 _ _ _ _ _ _ ?_
  simp (disch := omega) only [exB, Nat.reduceAdd, Nat.reduceSub, Nat.reduceMul, Nat.reduceLeDiff, Nat.reduceLT, Nat.reduceEqDiff, Nat.reduceBEq, Int.reduceAdd, Int.reduceSub, Int.reduceMul, Int.reduceNeg, Int.reduceToNat, Int.reduceLE, Int.reduceLT, Int.reduceEq, Int.reduceGE, Int.reduceGT, ↓reduceIte, reduceCtorEq, gm_pe, gm_pn, gc_put, gl_put, gs_put, cd_X4_lays, hM.f]
  refine gCall.of (m_isNet hM hn (by omega)) (by decide) (by first | omega | decide) (by first | omega | decide) ?_
  rintro r G' ⟨rfl, rfl⟩
  by_cases h : isN (M 0) n
  case neg =>
    rw [if_neg h]
    refine exS rfl 6 _ _ _ _ _ _ ?_
    simp (disch := omega) only [exB, Nat.reduceAdd, Nat.reduceSub, Nat.reduceMul, Nat.reduceLeDiff, Nat.reduceLT, Nat.reduceEqDiff, Nat.reduceBEq, Int.reduceAdd, Int.reduceSub, Int.reduceMul, Int.reduceNeg, Int.reduceToNat, Int.reduceLE, Int.reduceLT, Int.reduceEq, Int.reduceGE, Int.reduceGT, ↓reduceIte, reduceCtorEq, gm_pe, gm_pn, gc_put, gl_put, gs_put, cd_X4_lays, hM.f, iI_rt]
    subst hQ
    refine ⟨none, fun q => absurd q h, ?_⟩
    unfold layZ layN
    rw [if_neg h, if_neg (fun q => h q.1)]
    exact AP.same hM
  rw [if_pos h]
  have hn6 : 0 ≤ n ∧ n < 6 := by omega
  refine exS rfl 6 _ _ _ _ _ _ ?_
  simp (disch := omega) only [exB, Nat.reduceAdd, Nat.reduceSub, Nat.reduceMul, Nat.reduceLeDiff, Nat.reduceLT, Nat.reduceEqDiff, Nat.reduceBEq, Int.reduceAdd, Int.reduceSub, Int.reduceMul, Int.reduceNeg, Int.reduceToNat, Int.reduceLE, Int.reduceLT, Int.reduceEq, Int.reduceGE, Int.reduceGT, ↓reduceIte, reduceCtorEq, gm_pe, gm_pn, gc_put, gl_put, gs_put, cd_X4_lays, hM.f, iI_rt]
  refine gCall.of (m_isJoined hM hn6) (by decide) (by first | omega | decide) (by first | omega | decide) ?_
  rintro r G' ⟨rfl, rfl⟩
  by_cases hj : jnd (M 0) n
  · rw [if_pos hj]
    refine exS rfl 6 _ _ _ _ _ _ ?_
    simp (disch := omega) only [exB, Nat.reduceAdd, Nat.reduceSub, Nat.reduceMul, Nat.reduceLeDiff, Nat.reduceLT, Nat.reduceEqDiff, Nat.reduceBEq, Int.reduceAdd, Int.reduceSub, Int.reduceMul, Int.reduceNeg, Int.reduceToNat, Int.reduceLE, Int.reduceLT, Int.reduceEq, Int.reduceGE, Int.reduceGT, ↓reduceIte, reduceCtorEq, gm_pe, gm_pn, gc_put, gl_put, gs_put, cd_X4_lays, hM.f, iI_rt]
    subst hQ
    refine ⟨none, fun _ q => absurd hj q, ?_⟩
    unfold layZ layN
    rw [if_pos h, if_pos hj, if_neg (fun q => q.2 hj)]
    exact AP.same hM
  rw [if_neg hj]
  have nb := hB.2.2.2.2.2.1 n hn6.1 hn6.2
  refine exS rfl 6 _ _ _ _ _ _ ?_
  simp (disch := omega) only [exB, Nat.reduceAdd, Nat.reduceSub, Nat.reduceMul, Nat.reduceLeDiff, Nat.reduceLT, Nat.reduceEqDiff, Nat.reduceBEq, Int.reduceAdd, Int.reduceSub, Int.reduceMul, Int.reduceNeg, Int.reduceToNat, Int.reduceLE, Int.reduceLT, Int.reduceEq, Int.reduceGE, Int.reduceGT, ↓reduceIte, reduceCtorEq, gm_pe, gm_pn, gc_put, gl_put, gs_put, cd_X4_lays, hM.f, iI_rt]
  refine gCall.of (m_routes hM hB.rc hn6 (dg := 0) (Or.inl rfl) (hB.pins hn6.1 hn6.2) nb.1.1 nb.2.1.1) (by decide) (by first | omega | decide) (by first | omega | decide) ?_
  rintro r G1 ⟨hk1, R, M1, V1, hRR, hR1, hf1, hv1, hm⟩
  match R, hRR, hm with
  | none, hRR, hr0 =>
    subst hr0
    refine exS rfl 6 _ _ _ _ _ _ ?_
    simp (disch := omega) only [exB, Nat.reduceAdd, Nat.reduceSub, Nat.reduceMul, Nat.reduceLeDiff, Nat.reduceLT, Nat.reduceEqDiff, Nat.reduceBEq, Int.reduceAdd, Int.reduceSub, Int.reduceMul, Int.reduceNeg, Int.reduceToNat, Int.reduceLE, Int.reduceLT, Int.reduceEq, Int.reduceGE, Int.reduceGT, ↓reduceIte, reduceCtorEq, gm_pe, gm_pn, gc_put, gl_put, gs_put, cd_X4_lays, hM.f, iI_rt]
    subst hQ
    refine ⟨none, fun _ _ => hRR, ?_⟩
    unfold layZ layN
    rw [if_pos h, if_neg hj, if_pos ⟨h, hj⟩]
    exact ⟨rfl, hk1, M1, V1, hR1, hf1 0 (by decide) (by decide) (by decide), fun f a b c d => hf1 f b c d, hv1⟩
  | some (l, c), hRR, ⟨hr0, hl, hc, hg⟩ =>
    subst hr0
    have e0 : M1 0 = M 0 := hf1 0 (by decide) (by decide) (by decide)
    have hb := hRR.b nb.2.1 nb.2.2.1.2
    refine exS rfl 6 _ _ _ _ _ _ ?_
    simp (disch := omega) only [exB, Nat.reduceAdd, Nat.reduceSub, Nat.reduceMul, Nat.reduceLeDiff, Nat.reduceLT, Nat.reduceEqDiff, Nat.reduceBEq, Int.reduceAdd, Int.reduceSub, Int.reduceMul, Int.reduceNeg, Int.reduceToNat, Int.reduceLE, Int.reduceLT, Int.reduceEq, Int.reduceGE, Int.reduceGT, ↓reduceIte, reduceCtorEq, gm_pe, gm_pn, gc_put, gl_put, gs_put, cd_X4_lays, hR1.f, iI_rt]
    refine gCall.of (m_wires hR1 (l := l) (m := n) ⟨hl, hb.1, hb.2.2, hg⟩ hn6) (by decide) (by first | omega | decide) (by first | omega | decide) ?_
    rintro r G2 ⟨rfl, hk2, hR2⟩
    rw [e0] at hR2
    have e4 : setF M1 0 (wirN (M 0) n l) 0 4 = wirN (M 0) n l 4 := by rw [setF_s]
    have e4' : wirN (M 0) n l 4 = M 0 4 := by
      unfold wirN uN
      rw [if_neg (by omega)]
      unfold wirR
      rw [if_neg (fun q => by have := hb.2.2 _ q; unfold inC at this; omega)]
    have b4 := hB.2.2.2.1
    have hK := hB.1
    refine exS rfl 20 _ _ _ _ _ _ ?_
    simp (disch := omega) only [exB, Nat.reduceAdd, Nat.reduceSub, Nat.reduceMul, Nat.reduceLeDiff, Nat.reduceLT, Nat.reduceEqDiff, Nat.reduceBEq, Int.reduceAdd, Int.reduceSub, Int.reduceMul, Int.reduceNeg, Int.reduceToNat, Int.reduceLE, Int.reduceLT, Int.reduceEq, Int.reduceGE, Int.reduceGT, ↓reduceIte, reduceCtorEq, gm_pe, gm_pn, gc_put, gl_put, gs_put, cd_X4_lays, hR2.f, iI_rt, e4, hc]
    have h4 := hR2.putA 0 (z := 4) (v := wirN (M 0) n l 4 + 1) (by decide) (by decide) (by omega)
    rw [uM_0s] at h4
    subst hQ
    refine ⟨some (l, c), fun _ _ => hRR, ?_⟩
    unfold layZ layN
    rw [if_pos h, if_neg hj, if_pos ⟨h, hj⟩]
    refine ⟨rfl, (hk1.trans hk2).put (a := o + 1) (by omega), _, _, h4, by rw [setF_s]; rfl, fun f a b c d => ?_, hv1⟩
    rw [setF_n a]
    exact hf1 f b c d
theorem m_rips {n : Int} (hM : MR G o M V) (hB : RowB K (M 0)) (hn : i32 n) : Tri X 3 Y_X4_rips [.ref o, .int (iI n)] 0 0 G (APost G o M V (ripZ (M 0) n) (ripN (M 0) n)) := by
  have h5 := hB.2.1.1
  refine Tri.of (by decide +kernel) (Nat.le_of_ble_eq_true rfl) ?_
  generalize hQ : APost G o M V (ripZ (M 0) n) (ripN (M 0) n) = Q
  refine exS rfl 6 _ _ _ _ _ _ ?_
  simp (disch := omega) only [exB, Nat.reduceAdd, Nat.reduceSub, Nat.reduceMul, Nat.reduceLeDiff, Nat.reduceLT, Nat.reduceEqDiff, Nat.reduceBEq, Int.reduceAdd, Int.reduceSub, Int.reduceMul, Int.reduceNeg, Int.reduceToNat, Int.reduceLE, Int.reduceLT, Int.reduceEq, Int.reduceGE, Int.reduceGT, ↓reduceIte, reduceCtorEq, gm_pe, gm_pn, gc_put, gl_put, gs_put, cd_X4_rips, hM.f]
  refine gCall.of (m_isNet hM hn (by omega)) (by decide) (by first | omega | decide) (by first | omega | decide) ?_
  rintro r G' ⟨rfl, rfl⟩
  by_cases h : isN (M 0) n
  case neg =>
    rw [if_neg h]
    refine exS rfl 6 _ _ _ _ _ _ ?_
    simp (disch := omega) only [exB, Nat.reduceAdd, Nat.reduceSub, Nat.reduceMul, Nat.reduceLeDiff, Nat.reduceLT, Nat.reduceEqDiff, Nat.reduceBEq, Int.reduceAdd, Int.reduceSub, Int.reduceMul, Int.reduceNeg, Int.reduceToNat, Int.reduceLE, Int.reduceLT, Int.reduceEq, Int.reduceGE, Int.reduceGT, ↓reduceIte, reduceCtorEq, gm_pe, gm_pn, gc_put, gl_put, gs_put, cd_X4_rips, hM.f, iI_rt]
    subst hQ
    unfold ripZ ripN
    rw [if_neg h, if_neg (fun q => h q.1)]
    exact AP.same hM
  rw [if_pos h]
  have hn6 : 0 ≤ n ∧ n < 6 := by omega
  refine exS rfl 6 _ _ _ _ _ _ ?_
  simp (disch := omega) only [exB, Nat.reduceAdd, Nat.reduceSub, Nat.reduceMul, Nat.reduceLeDiff, Nat.reduceLT, Nat.reduceEqDiff, Nat.reduceBEq, Int.reduceAdd, Int.reduceSub, Int.reduceMul, Int.reduceNeg, Int.reduceToNat, Int.reduceLE, Int.reduceLT, Int.reduceEq, Int.reduceGE, Int.reduceGT, ↓reduceIte, reduceCtorEq, gm_pe, gm_pn, gc_put, gl_put, gs_put, cd_X4_rips, hM.f, iI_rt]
  refine gCall.of (m_isJoined hM hn6) (by decide) (by first | omega | decide) (by first | omega | decide) ?_
  rintro r G' ⟨rfl, rfl⟩
  by_cases hj : jnd (M 0) n
  case neg =>
    rw [if_neg hj]
    refine exS rfl 6 _ _ _ _ _ _ ?_
    simp (disch := omega) only [exB, Nat.reduceAdd, Nat.reduceSub, Nat.reduceMul, Nat.reduceLeDiff, Nat.reduceLT, Nat.reduceEqDiff, Nat.reduceBEq, Int.reduceAdd, Int.reduceSub, Int.reduceMul, Int.reduceNeg, Int.reduceToNat, Int.reduceLE, Int.reduceLT, Int.reduceEq, Int.reduceGE, Int.reduceGT, ↓reduceIte, reduceCtorEq, gm_pe, gm_pn, gc_put, gl_put, gs_put, cd_X4_rips, hM.f, iI_rt]
    subst hQ
    unfold ripZ ripN
    rw [if_pos h, if_neg hj, if_neg (fun q => hj q.2)]
    exact AP.same hM
  rw [if_pos hj]
  refine exS rfl 6 _ _ _ _ _ _ ?_
  simp (disch := omega) only [exB, Nat.reduceAdd, Nat.reduceSub, Nat.reduceMul, Nat.reduceLeDiff, Nat.reduceLT, Nat.reduceEqDiff, Nat.reduceBEq, Int.reduceAdd, Int.reduceSub, Int.reduceMul, Int.reduceNeg, Int.reduceToNat, Int.reduceLE, Int.reduceLT, Int.reduceEq, Int.reduceGE, Int.reduceGT, ↓reduceIte, reduceCtorEq, gm_pe, gm_pn, gc_put, gl_put, gs_put, cd_X4_rips, hM.f, iI_rt]
  refine gCall.of (m_wireMany hM (n := n) (by omega)) (by decide) (by first | omega | decide) (by first | omega | decide) ?_
  rintro r G' ⟨rfl, rfl⟩
  refine exS rfl 6 _ _ _ _ _ _ ?_
  simp (disch := omega) only [exB, Nat.reduceAdd, Nat.reduceSub, Nat.reduceMul, Nat.reduceLeDiff, Nat.reduceLT, Nat.reduceEqDiff, Nat.reduceBEq, Int.reduceAdd, Int.reduceSub, Int.reduceMul, Int.reduceNeg, Int.reduceToNat, Int.reduceLE, Int.reduceLT, Int.reduceEq, Int.reduceGE, Int.reduceGT, ↓reduceIte, reduceCtorEq, gm_pe, gm_pn, gc_put, gl_put, gs_put, cd_X4_rips, hM.f, iI_rt]
  refine gCall.of (m_loses hM (m := n) hn6) (by decide) (by first | omega | decide) (by first | omega | decide) ?_
  rintro r G2 ⟨rfl, hk2, hR2⟩
  have e4 : setF M 0 (losN (M 0) n) 0 4 = losN (M 0) n 4 := by rw [setF_s]
  have e4' : losN (M 0) n 4 = M 0 4 := by
    unfold losN uN losR
    rw [if_neg (by omega), if_neg (by omega)]
  have b4 := hB.2.2.2.1
  have hK := hB.1
  refine exS rfl 20 _ _ _ _ _ _ ?_
  simp (disch := omega) only [exB, Nat.reduceAdd, Nat.reduceSub, Nat.reduceMul, Nat.reduceLeDiff, Nat.reduceLT, Nat.reduceEqDiff, Nat.reduceBEq, Int.reduceAdd, Int.reduceSub, Int.reduceMul, Int.reduceNeg, Int.reduceToNat, Int.reduceLE, Int.reduceLT, Int.reduceEq, Int.reduceGE, Int.reduceGT, ↓reduceIte, reduceCtorEq, gm_pe, gm_pn, gc_put, gl_put, gs_put, cd_X4_rips, hR2.f, iI_rt, e4]
  have h4 := hR2.putA 0 (z := 4) (v := losN (M 0) n 4 + 1) (by decide) (by decide) (by omega)
  rw [uM_0s] at h4
  subst hQ
  unfold ripZ ripN
  rw [if_pos h, if_pos hj, if_pos ⟨h, hj⟩]
  refine ⟨rfl, hk2.put (a := o + 1) (by omega), _, _, h4, by rw [setF_s]; rfl, fun f a b c d => ?_, fun _ _ _ _ => rfl⟩
  rw [setF_n a]
theorem m_passes {a : Int} (hM : MR G o M V) (hB : RowB K (M 0)) (ha : i32 a) : Tri X 2 Y_X4_passes [.ref o, .int (iI a)] 0 0 G (APost G o M V (passZ (M 0) a) (passN (M 0) a)) := by
  have b4 := hB.2.2.2.1
  have hK := hB.1
  refine Tri.of (by decide +kernel) (Nat.le_of_ble_eq_true rfl) ?_
  generalize hQ : APost G o M V (passZ (M 0) a) (passN (M 0) a) = Q
  refine exS rfl 6 _ _ _ _ _ _ ?_
  simp (disch := omega) only [exB, Nat.reduceAdd, Nat.reduceSub, Nat.reduceMul, Nat.reduceLeDiff, Nat.reduceLT, Nat.reduceEqDiff, Nat.reduceBEq, Int.reduceAdd, Int.reduceSub, Int.reduceMul, Int.reduceNeg, Int.reduceToNat, Int.reduceLE, Int.reduceLT, Int.reduceEq, Int.reduceGE, Int.reduceGT, ↓reduceIte, reduceCtorEq, gm_pe, gm_pn, gc_put, gl_put, gs_put, cd_X4_passes]
  refine gCall.of (m_in ha (by decide) (by decide)) (by decide) (by first | omega | decide) (by first | omega | decide) ?_
  rintro r G' ⟨rfl, rfl⟩
  by_cases h : 1 ≤ a ∧ a ≤ 50
  case neg =>
    rw [if_neg h]
    refine exS rfl 6 _ _ _ _ _ _ ?_
    simp (disch := omega) only [exB, Nat.reduceAdd, Nat.reduceSub, Nat.reduceMul, Nat.reduceLeDiff, Nat.reduceLT, Nat.reduceEqDiff, Nat.reduceBEq, Int.reduceAdd, Int.reduceSub, Int.reduceMul, Int.reduceNeg, Int.reduceToNat, Int.reduceLE, Int.reduceLT, Int.reduceEq, Int.reduceGE, Int.reduceGT, ↓reduceIte, reduceCtorEq, gm_pe, gm_pn, gc_put, gl_put, gs_put, cd_X4_passes, iI_rt]
    subst hQ
    unfold passZ passN
    rw [if_neg h, if_neg (fun q => h q.1)]
    exact AP.same hM
  rw [if_pos h]
  have h4 := hM.putA 0 (z := 4) (v := M 0 4 + a) (by decide) (by decide) (by omega)
  refine exS rfl 30 _ _ _ _ _ _ ?_
  simp (disch := omega) only [exB, Nat.reduceAdd, Nat.reduceSub, Nat.reduceMul, Nat.reduceLeDiff, Nat.reduceLT, Nat.reduceEqDiff, Nat.reduceBEq, Int.reduceAdd, Int.reduceSub, Int.reduceMul, Int.reduceNeg, Int.reduceToNat, Int.reduceLE, Int.reduceLT, Int.reduceEq, Int.reduceGE, Int.reduceGT, ↓reduceIte, reduceCtorEq, gm_pe, gm_pn, gc_put, gl_put, gs_put, cd_X4_passes, hM.f, iI_rt]
  subst hQ
  unfold passZ passN
  rw [if_pos h]
  refine ⟨fun q => ?_, fun q => ?_⟩
  · rw [if_neg (by omega), if_pos ⟨h, by omega⟩]
    rw [uM_00] at h4
    exact ⟨rfl, MK.refl.put (by omega), _, _, h4, by rw [setF_s], fun f a b c d => by rw [setF_n a], fun _ _ _ _ => rfl⟩
  · rw [if_pos (by omega), if_neg (fun z => z.2 (by omega))]
    exact AP.same hM
theorem m_claimAt {c w : Int} (hM : MR G o M V) (h : 0 ≤ 223 + 13 * c + w ∧ 223 + 13 * c + w < 379) : Tri X 1 Y_X4_claimAt [.ref o, .int (iI c), .int (iI w)] 0 0 G (fun r G' => r = some (.int (iI (clA (M 0) c w))) ∧ G' = G) := by
  refine Tri.of (by decide +kernel) (Nat.le_of_ble_eq_true rfl) ?_
  refine exS rfl 12 _ _ _ _ _ _ ?_
  simp (disch := omega) only [exB, Nat.reduceAdd, Nat.reduceSub, Nat.reduceMul, Nat.reduceLeDiff, Nat.reduceLT, Nat.reduceEqDiff, Nat.reduceBEq, Int.reduceAdd, Int.reduceSub, Int.reduceMul, Int.reduceNeg, Int.reduceToNat, Int.reduceLE, Int.reduceLT, Int.reduceEq, Int.reduceGE, Int.reduceGT, ↓reduceIte, reduceCtorEq, gm_pe, gm_pn, gc_put, gl_put, gs_put, cd_X4_claimAt, hM.f, iI_rt]
  exact ⟨by omega, by omega, rfl⟩
theorem m_since {c : Int} (hM : MR G o M V) (h : 0 ≤ c ∧ c < 12) : Tri X 2 Y_X4_since [.ref o, .int (iI c)] 0 0 G (fun r G' => r = some (.int (iI (M 0 4 - clA (M 0) c 6))) ∧ G' = G) := by
  refine Tri.of (by decide +kernel) (Nat.le_of_ble_eq_true rfl) ?_
  refine exS rfl 12 _ _ _ _ _ _ ?_
  simp (disch := omega) only [exB, Nat.reduceAdd, Nat.reduceSub, Nat.reduceMul, Nat.reduceLeDiff, Nat.reduceLT, Nat.reduceEqDiff, Nat.reduceBEq, Int.reduceAdd, Int.reduceSub, Int.reduceMul, Int.reduceNeg, Int.reduceToNat, Int.reduceLE, Int.reduceLT, Int.reduceEq, Int.reduceGE, Int.reduceGT, ↓reduceIte, reduceCtorEq, gm_pe, gm_pn, gc_put, gl_put, gs_put, cd_X4_since, hM.f, iI_rt]
  refine gCall.of (m_claimAt hM (c := c) (w := 6) (by omega)) (by decide) (by first | omega | decide) (by first | omega | decide) ?_
  rintro r G' ⟨rfl, rfl⟩
  refine exS rfl 12 _ _ _ _ _ _ ?_
  simp (disch := omega) only [exB, Nat.reduceAdd, Nat.reduceSub, Nat.reduceMul, Nat.reduceLeDiff, Nat.reduceLT, Nat.reduceEqDiff, Nat.reduceBEq, Int.reduceAdd, Int.reduceSub, Int.reduceMul, Int.reduceNeg, Int.reduceToNat, Int.reduceLE, Int.reduceLT, Int.reduceEq, Int.reduceGE, Int.reduceGT, ↓reduceIte, reduceCtorEq, gm_pe, gm_pn, gc_put, gl_put, gs_put, cd_X4_since, hM.f, iI_rt]
theorem m_loss {c : Int} (hM : MR G o M V) (h : 0 ≤ c ∧ c < 12) : Tri X 2 Y_X4_loss [.ref o, .int (iI c)] 0 0 G (fun r G' => r = some (.int (iI (lossN (M 0) c))) ∧ G' = G) := by
  refine Tri.of (by decide +kernel) (Nat.le_of_ble_eq_true rfl) ?_
  refine exS rfl 12 _ _ _ _ _ _ ?_
  simp (disch := omega) only [exB, Nat.reduceAdd, Nat.reduceSub, Nat.reduceMul, Nat.reduceLeDiff, Nat.reduceLT, Nat.reduceEqDiff, Nat.reduceBEq, Int.reduceAdd, Int.reduceSub, Int.reduceMul, Int.reduceNeg, Int.reduceToNat, Int.reduceLE, Int.reduceLT, Int.reduceEq, Int.reduceGE, Int.reduceGT, ↓reduceIte, reduceCtorEq, gm_pe, gm_pn, gc_put, gl_put, gs_put, cd_X4_loss, hM.f, iI_rt]
  refine gCall.of (m_claimAt hM (c := c) (w := 2) (by omega)) (by decide) (by first | omega | decide) (by first | omega | decide) ?_
  rintro r G' ⟨rfl, rfl⟩
  refine exS rfl 12 _ _ _ _ _ _ ?_
  simp (disch := omega) only [exB, Nat.reduceAdd, Nat.reduceSub, Nat.reduceMul, Nat.reduceLeDiff, Nat.reduceLT, Nat.reduceEqDiff, Nat.reduceBEq, Int.reduceAdd, Int.reduceSub, Int.reduceMul, Int.reduceNeg, Int.reduceToNat, Int.reduceLE, Int.reduceLT, Int.reduceEq, Int.reduceGE, Int.reduceGT, ↓reduceIte, reduceCtorEq, gm_pe, gm_pn, gc_put, gl_put, gs_put, cd_X4_loss, hM.f, iI_rt]
  refine gCall.of (m_claimAt hM (c := c) (w := 3) (by omega)) (by decide) (by first | omega | decide) (by first | omega | decide) ?_
  rintro r G' ⟨rfl, rfl⟩
  refine exS rfl 12 _ _ _ _ _ _ ?_
  simp (disch := omega) only [exB, Nat.reduceAdd, Nat.reduceSub, Nat.reduceMul, Nat.reduceLeDiff, Nat.reduceLT, Nat.reduceEqDiff, Nat.reduceBEq, Int.reduceAdd, Int.reduceSub, Int.reduceMul, Int.reduceNeg, Int.reduceToNat, Int.reduceLE, Int.reduceLT, Int.reduceEq, Int.reduceGE, Int.reduceGT, ↓reduceIte, reduceCtorEq, gm_pe, gm_pn, gc_put, gl_put, gs_put, cd_X4_loss, hM.f, iI_rt]
  rfl
theorem m_appealMany (hM : MR G o M V) (h6 : 0 ≤ M 0 6 ∧ M 0 6 ≤ 12) : Tri X 2 Y_X4_appealMany [.ref o] 0 0 G (fun r G' => r = some (.int (iI (appC (M 0)))) ∧ G' = G) := by
  refine Tri.of (by decide +kernel) (Nat.le_of_ble_eq_true rfl) ?_
  generalize hQ : (fun (r : Option Value) G' => r = some (.int (iI (appC (M 0)))) ∧ G' = G) = Q
  refine excS rfl 4 4 _ _ _ _ _ _ ?_
  simp (disch := omega) only [exB, Nat.reduceAdd, Nat.reduceSub, Nat.reduceMul, Nat.reduceLeDiff, Nat.reduceLT, Nat.reduceEqDiff, Nat.reduceBEq, Int.reduceAdd, Int.reduceSub, Int.reduceMul, Int.reduceNeg, Int.reduceToNat, Int.reduceLE, Int.reduceLT, Int.reduceEq, Int.reduceGE, Int.reduceGT, ↓reduceIte, reduceCtorEq, gm_pe, gm_pn, gc_put, gl_put, gs_put, cd_X4_appealMany]
  refine Wp.wk' [some (.ref o), some (.int (iI (sumI (fun c => if clA (M 0) c 5 = 1 then 1 else 0) (0 : Int).toNat))), some (.int (iI 0))] ?_ (by simp [wkL, sumI])
  refine up0 (W := fun i => Wp X Y_X4_appealMany 2 Q 0 0 G 4 [some (.ref o), some (.int (iI (sumI (fun c => if clA (M 0) c 5 = 1 then 1 else 0) i.toNat))), some (.int (iI i))] []) (hi := M 0 6) 0 ?_ ?_ 0 (by decide) h6.1
  · intro i i0 i1 ih
    rw [sumI_s i0] at ih
    have hc := hM.bA (z := 223 + 13 * i + 5) (by omega) (by omega)
    have e : clA (M 0) i 5 = M 0 (223 + 13 * i + 5) := rfl
    have bs := sumI_b (f := fun c => if clA (M 0) c 5 = 1 then 1 else 0) (fun i => by split <;> decide) i.toNat
    refine excS rfl 4 12 _ _ _ _ _ _ ?_
    simp (disch := omega) only [exB, Nat.reduceAdd, Nat.reduceSub, Nat.reduceMul, Nat.reduceLeDiff, Nat.reduceLT, Nat.reduceEqDiff, Nat.reduceBEq, Int.reduceAdd, Int.reduceSub, Int.reduceMul, Int.reduceNeg, Int.reduceToNat, Int.reduceLE, Int.reduceLT, Int.reduceEq, Int.reduceGE, Int.reduceGT, ↓reduceIte, reduceCtorEq, gm_pe, gm_pn, gc_put, gl_put, gs_put, cd_X4_appealMany, hM.f, iI_rt]
    refine ⟨fun h => absurd h (by omega), fun _ => ?_⟩
    refine gCall.of (m_claimAt hM (c := i) (w := 5) (by omega)) (by decide) (by first | omega | decide) (by first | omega | decide) ?_
    rintro r G' ⟨rfl, rfl⟩
    refine excS rfl 4 16 _ _ _ _ _ _ ?_
    simp (disch := omega) only [exB, Nat.reduceAdd, Nat.reduceSub, Nat.reduceMul, Nat.reduceLeDiff, Nat.reduceLT, Nat.reduceEqDiff, Nat.reduceBEq, Int.reduceAdd, Int.reduceSub, Int.reduceMul, Int.reduceNeg, Int.reduceToNat, Int.reduceLE, Int.reduceLT, Int.reduceEq, Int.reduceGE, Int.reduceGT, ↓reduceIte, reduceCtorEq, gm_pe, gm_pn, gc_put, gl_put, gs_put, cd_X4_appealMany, hM.f, iI_rt]
    refine ⟨fun z => ?_, fun z => ?_⟩
    · rw [if_neg z] at ih; exact ih
    · rw [if_pos (Classical.not_not.mp z)] at ih; exact ih
  · refine excS rfl 4 12 _ _ _ _ _ _ ?_
    subst hQ
    simp (disch := omega) only [exB, Nat.reduceAdd, Nat.reduceSub, Nat.reduceMul, Nat.reduceLeDiff, Nat.reduceLT, Nat.reduceEqDiff, Nat.reduceBEq, Int.reduceAdd, Int.reduceSub, Int.reduceMul, Int.reduceNeg, Int.reduceToNat, Int.reduceLE, Int.reduceLT, Int.reduceEq, Int.reduceGE, Int.reduceGT, ↓reduceIte, reduceCtorEq, gm_pe, gm_pn, gc_put, gl_put, gs_put, cd_X4_appealMany, hM.f, iI_rt]
    exact ⟨fun _ => rfl, fun z => absurd (Int.le_refl _) z⟩
end
