/-! THE MODEL 13: pays, claims, bits -/
set_option maxRecDepth 100000
set_option maxHeartbeats 4000000
/-- a number as an int holds it -/
def wr (z : Int) : Int := (iI z).toInt
theorem iI_wr {z : Int} : iI (wr z) = iI z := by
  unfold wr
  exact Int32.ofInt_toInt _
theorem wr_b {z : Int} : i32 (wr z) := by
  have := Int32.le_toInt (iI z)
  have := Int32.toInt_lt (iI z)
  unfold wr i32
  omega
theorem wr_id {z : Int} (h : i32 z) : wr z = z := iI_rt h.1 h.2
def adN (N : Int → Int) (n w b : Int) : Int → Int := uN N (169 + 9 * n + w) (wr (N (169 + 9 * n + w) + b))
def paysN (N : Int → Int) (a b c : Int) : Int → Int := adN (adN (adN (adN N a 4 (-c)) a 7 c) b 4 c) b 8 c
/-- the k-th mask of a wire up to cell c -/
def mskF (N : Int → Int) (b k : Int) : Int → Int := fun z => if N (7 + (27 * k + z)) = 1 + b then 1 else 0
def mskP (N : Int → Int) (b k c : Int) : Int := vicS (mskF N b k) (min (c - 27 * k) 27).toNat
def claA (N : Int → Int) (a b p : Int) : Int → Int :=
  let q := 223 + 13 * N 6
  uN (uN (uN (uN (uN (uN (uN N q b) (q + 1) a) (q + 2) (wireC N b)) (q + 3) (viaC N b)) (q + 4) p) (q + 5) 0) (q + 6) (N 4)
def claR (N0 N : Int → Int) (b q c : Int) : Int → Int := fun j => if q + 7 ≤ j ∧ j < q + 13 then mskP N0 b (j - q - 7) c else N j
/-- a claim is written down -/
def claN (N : Int → Int) (a b p : Int) : Int → Int := uN (claR N (claA N a b p) b (223 + 13 * N 6) 162) 6 (N 6 + 1)
def popc (s : Nat) : Nat := s % 2 + s / 2 % 2 + s / 4 % 2 + s / 8 % 2 + s / 16 % 2 + s / 32 % 2
theorem popc_s : ∀ s : Fin 64, s.val ≠ 0 → Int32.ofNat s.val &&& (Int32.ofNat s.val - Int32.ofNat 1) = Int32.ofNat (s.val &&& (s.val - 1)) ∧ popc (s.val &&& (s.val - 1)) + 1 = popc s.val ∧ (s.val &&& (s.val - 1)) < s.val := by decide +kernel
theorem popc_b : ∀ s : Fin 64, popc s.val ≤ 6 := by decide +kernel
theorem mskP_b {N : Int → Int} {b k c : Int} : 0 ≤ mskP N b k c ∧ mskP N b k c < 134217728 := by
  unfold mskP
  have h := vicS_b (f := mskF N b k) (min (c - 27 * k) 27).toNat
  have : (2 : Int) ^ (min (c - 27 * k) 27).toNat ≤ 2 ^ 27 := by
    have h2 : 2 ^ (min (c - 27 * k) 27).toNat ≤ 2 ^ 27 := Nat.pow_le_pow_right (by decide) (by omega)
    have e2 : ((2 ^ (min (c - 27 * k) 27).toNat : Nat) : Int) = 2 ^ (min (c - 27 * k) 27).toNat := by rw [Int.natCast_pow]; rfl
    omega
  omega
theorem sumI_c2 {f h : Int → Int} : ∀ n : Nat, (∀ i : Nat, i < n → f i = h i) → sumI f n = sumI h n
  | 0, _ => rfl
  | n + 1, hh => by
    show sumI f n + f n = sumI h n + h n
    rw [sumI_c2 n (fun i hi => hh i (by omega)), hh n (by omega)]
section
variable {X : gX} {G : gH} {o : Nat} {N : Int → Int} {L : List (Int → Int)} {T : List Int} {M : Nat → Int → Int} {V : Nat → Int} {l : List Int}
theorem m_addsW {n w b : Int} (hM : MR G o M V) (h : 0 ≤ 169 + 9 * n + w ∧ 169 + 9 * n + w < 379) : Tri X 1 Y_X4_adds [.ref o, .int (iI n), .int (iI w), .int (iI b)] 0 0 G (fun r G' => r = none ∧ MK G G' o ∧ MR G' o (setF M 0 (adN (M 0) n w b)) V) := by
  refine Tri.of (by decide +kernel) (Nat.le_of_ble_eq_true rfl) ?_
  refine exS rfl 20 _ _ _ _ _ _ ?_
  simp (disch := omega) only [exB, Nat.reduceAdd, Nat.reduceSub, Nat.reduceMul, Nat.reduceLeDiff, Nat.reduceLT, Nat.reduceEqDiff, Nat.reduceBEq, Int.reduceAdd, Int.reduceSub, Int.reduceMul, Int.reduceNeg, Int.reduceToNat, Int.reduceLE, Int.reduceLT, Int.reduceEq, Int.reduceGE, Int.reduceGT, ↓reduceIte, reduceCtorEq, gm_pe, gm_pn, gc_put, gl_put, gs_put, cd_X4_adds, hM.f, iI_rt]
  have h4 := hM.putA 0 (z := 169 + 9 * n + w) (v := wr (M 0 (169 + 9 * n + w) + b)) (by decide) (by omega) wr_b
  rw [iI_wr] at h4
  refine ⟨by omega, by omega, by omega, by omega, MK.refl.put (by omega), ?_⟩
  have e : uM M 0 (169 + 9 * n + w) (wr (M 0 (169 + 9 * n + w) + b)) = setF M 0 (adN (M 0) n w b) := by
    rw [← setF_id (M := M) (f := 0), uM_set, setF_id]
    rfl
  rw [← e]
  exact h4
theorem m_pays {a b c : Int} (hM : MR G o M V) (ha : 0 ≤ a ∧ a < 6) (hb : 0 ≤ b ∧ b < 6) : Tri X 2 Y_X4_pays [.ref o, .int (iI a), .int (iI b), .int (iI c)] 0 0 G (fun r G' => r = none ∧ MK G G' o ∧ MR G' o (setF M 0 (paysN (M 0) a b c)) V) := by
  have ee : ∀ f g, setF (setF M 0 f) 0 g = setF M 0 g := fun f g => by funext x; unfold setF; split <;> rfl
  refine Tri.of (by decide +kernel) (Nat.le_of_ble_eq_true rfl) ?_
  generalize hQ : (fun (r : Option Value) G' => r = none ∧ MK G G' o ∧ MR G' o (setF M 0 (paysN (M 0) a b c)) V) = Q
  refine exS rfl 12 _ _ _ _ _ _ ?_
  simp (disch := omega) only [exB, Nat.reduceAdd, Nat.reduceSub, Nat.reduceMul, Nat.reduceLeDiff, Nat.reduceLT, Nat.reduceEqDiff, Nat.reduceBEq, Int.reduceAdd, Int.reduceSub, Int.reduceMul, Int.reduceNeg, Int.reduceToNat, Int.reduceLE, Int.reduceLT, Int.reduceEq, Int.reduceGE, Int.reduceGT, ↓reduceIte, reduceCtorEq, gm_pe, gm_pn, gc_put, gl_put, gs_put, cd_X4_pays, hM.f, iI_rt]
  refine gCall.of (m_addsW hM (n := a) (w := 4) (b := -c) (by omega)) (by decide) (by first | omega | decide) (by first | omega | decide) ?_
  rintro r G1 ⟨rfl, hk1, h1⟩
  refine exS rfl 12 _ _ _ _ _ _ ?_
  simp (disch := omega) only [exB, Nat.reduceAdd, Nat.reduceSub, Nat.reduceMul, Nat.reduceLeDiff, Nat.reduceLT, Nat.reduceEqDiff, Nat.reduceBEq, Int.reduceAdd, Int.reduceSub, Int.reduceMul, Int.reduceNeg, Int.reduceToNat, Int.reduceLE, Int.reduceLT, Int.reduceEq, Int.reduceGE, Int.reduceGT, ↓reduceIte, reduceCtorEq, gm_pe, gm_pn, gc_put, gl_put, gs_put, cd_X4_pays, h1.f, iI_rt]
  refine gCall.of (m_addsW h1 (n := a) (w := 7) (b := c) (by omega)) (by decide) (by first | omega | decide) (by first | omega | decide) ?_
  rintro r G2 ⟨rfl, hk2, h2⟩
  rw [ee, setF_s] at h2
  refine exS rfl 12 _ _ _ _ _ _ ?_
  simp (disch := omega) only [exB, Nat.reduceAdd, Nat.reduceSub, Nat.reduceMul, Nat.reduceLeDiff, Nat.reduceLT, Nat.reduceEqDiff, Nat.reduceBEq, Int.reduceAdd, Int.reduceSub, Int.reduceMul, Int.reduceNeg, Int.reduceToNat, Int.reduceLE, Int.reduceLT, Int.reduceEq, Int.reduceGE, Int.reduceGT, ↓reduceIte, reduceCtorEq, gm_pe, gm_pn, gc_put, gl_put, gs_put, cd_X4_pays, h2.f, iI_rt]
  refine gCall.of (m_addsW h2 (n := b) (w := 4) (b := c) (by omega)) (by decide) (by first | omega | decide) (by first | omega | decide) ?_
  rintro r G3 ⟨rfl, hk3, h3⟩
  rw [ee, setF_s] at h3
  refine exS rfl 12 _ _ _ _ _ _ ?_
  simp (disch := omega) only [exB, Nat.reduceAdd, Nat.reduceSub, Nat.reduceMul, Nat.reduceLeDiff, Nat.reduceLT, Nat.reduceEqDiff, Nat.reduceBEq, Int.reduceAdd, Int.reduceSub, Int.reduceMul, Int.reduceNeg, Int.reduceToNat, Int.reduceLE, Int.reduceLT, Int.reduceEq, Int.reduceGE, Int.reduceGT, ↓reduceIte, reduceCtorEq, gm_pe, gm_pn, gc_put, gl_put, gs_put, cd_X4_pays, h3.f, iI_rt]
  refine gCall.of (m_addsW h3 (n := b) (w := 8) (b := c) (by omega)) (by decide) (by first | omega | decide) (by first | omega | decide) ?_
  rintro r G4 ⟨rfl, hk4, h4⟩
  rw [ee, setF_s] at h4
  refine exS rfl 2 _ _ _ _ _ _ ?_
  simp (disch := omega) only [exB, Nat.reduceAdd, Nat.reduceSub, Nat.reduceMul, Nat.reduceLeDiff, Nat.reduceLT, Nat.reduceEqDiff, Nat.reduceBEq, Int.reduceAdd, Int.reduceSub, Int.reduceMul, Int.reduceNeg, Int.reduceToNat, Int.reduceLE, Int.reduceLT, Int.reduceEq, Int.reduceGE, Int.reduceGT, ↓reduceIte, reduceCtorEq, gm_pe, gm_pn, gc_put, gl_put, gs_put, cd_X4_pays]
  subst hQ
  exact ⟨rfl, ((hk1.trans hk2).trans hk3).trans hk4, h4⟩
theorem m_bits {s : Int} (hs : 0 ≤ s ∧ s < 64) : Tri X 1 Y_X4_bits [.int (iI s)] 0 0 G (fun r G' => r = some (.int (iI (popc s.toNat : Nat))) ∧ G' = G) := by
  refine Tri.of (by decide +kernel) (Nat.le_of_ble_eq_true rfl) ?_
  generalize hQ : (fun (r : Option Value) G' => r = some (.int (iI (popc s.toNat : Nat))) ∧ G' = G) = Q
  refine excS rfl 4 6 _ _ _ _ _ _ ?_
  simp (disch := omega) only [exB, Nat.reduceAdd, Nat.reduceSub, Nat.reduceMul, Nat.reduceLeDiff, Nat.reduceLT, Nat.reduceEqDiff, Nat.reduceBEq, Int.reduceAdd, Int.reduceSub, Int.reduceMul, Int.reduceNeg, Int.reduceToNat, Int.reduceLE, Int.reduceLT, Int.reduceEq, Int.reduceGE, Int.reduceGT, ↓reduceIte, reduceCtorEq, gm_pe, gm_pn, gc_put, gl_put, gs_put, cd_X4_bits]
  have key : ∀ (u : Nat) (n : Int), u < 64 → 0 ≤ n → n + popc u = popc s.toNat → Wp X Y_X4_bits 1 Q 0 0 G 4 [some (.int (iI s)), some (.int (iI n)), some (.int (iI u))] [] := by
    intro u
    induction u using Nat.strongRecOn with
    | ind u ih =>
    intro n hu hn he
    have bp := popc_b ⟨s.toNat, by omega⟩
    dsimp only at bp
    by_cases h0 : u = 0
    · subst h0
      refine exS rfl 8 _ _ _ _ _ _ ?_
      simp (disch := omega) only [exB, Nat.reduceAdd, Nat.reduceSub, Nat.reduceMul, Nat.reduceLeDiff, Nat.reduceLT, Nat.reduceEqDiff, Nat.reduceBEq, Int.reduceAdd, Int.reduceSub, Int.reduceMul, Int.reduceNeg, Int.reduceToNat, Int.reduceLE, Int.reduceLT, Int.reduceEq, Int.reduceGE, Int.reduceGT, ↓reduceIte, reduceCtorEq, gm_pe, gm_pn, gc_put, gl_put, gs_put, cd_X4_bits, iI_rt]
      subst hQ
      refine ⟨?_, rfl⟩
      rw [← he]
      simp [popc]
    · obtain ⟨e1, e2, e3⟩ := popc_s ⟨u, hu⟩ h0
      dsimp only at e1 e2 e3
      simp only [iI_of] at e1
      have e4 : iI (u : Int) - iI ((1 : Nat) : Int) = iI ((u : Int) - 1) := by rw [iI_sub]; rfl
      rw [e4] at e1
      refine excS rfl 4 12 _ _ _ _ _ _ ?_
      simp (disch := omega) only [exB, Nat.reduceAdd, Nat.reduceSub, Nat.reduceMul, Nat.reduceLeDiff, Nat.reduceLT, Nat.reduceEqDiff, Nat.reduceBEq, Int.reduceAdd, Int.reduceSub, Int.reduceMul, Int.reduceNeg, Int.reduceToNat, Int.reduceLE, Int.reduceLT, Int.reduceEq, Int.reduceGE, Int.reduceGT, ↓reduceIte, reduceCtorEq, gm_pe, gm_pn, gc_put, gl_put, gs_put, cd_X4_bits, iI_rt]
      refine ⟨fun z => absurd z (by omega), fun _ => ?_⟩
      rw [e1]
      exact ih _ e3 (n + 1) (by omega) (by omega) (by omega)
  have := key s.toNat 0 (by omega) (by decide) (by omega)
  rw [show ((s.toNat : Nat) : Int) = s from by omega] at this
  exact this
theorem m_claims {a b p : Int} (hM : MR G o M V) (hm : 0 ≤ M 0 6 ∧ M 0 6 ≤ 11) (ha : 0 ≤ a ∧ a < 6) (hb : 0 ≤ b ∧ b < 6) (hp : i32 p) : Tri X 2 Y_X4_claims [.ref o, .int (iI a), .int (iI b), .int (iI p)] 0 0 G (fun r G' => r = none ∧ MK G G' o ∧ MR G' o (setF M 0 (claN (M 0) a b p)) V) := by
  refine Tri.of (by decide +kernel) (Nat.le_of_ble_eq_true rfl) ?_
  generalize hQ : (fun (r : Option Value) G' => r = none ∧ MK G G' o ∧ MR G' o (setF M 0 (claN (M 0) a b p)) V) = Q
  generalize hq : 223 + 13 * M 0 6 = q
  have hqb : 223 ≤ q ∧ q ≤ 366 := by omega
  refine exS rfl 40 _ _ _ _ _ _ ?_
  simp (disch := omega) only [exB, Nat.reduceAdd, Nat.reduceSub, Nat.reduceMul, Nat.reduceLeDiff, Nat.reduceLT, Nat.reduceEqDiff, Nat.reduceBEq, Int.reduceAdd, Int.reduceSub, Int.reduceMul, Int.reduceNeg, Int.reduceToNat, Int.reduceLE, Int.reduceLT, Int.reduceEq, Int.reduceGE, Int.reduceGT, ↓reduceIte, reduceCtorEq, gm_pe, gm_pn, gc_put, gl_put, gs_put, cd_X4_claims, hM.f, iI_rt, hq]
  have cells : ∀ (N' : Int → Int), (∀ j, 7 ≤ j → j < 169 → N' j = M 0 j) → wireC N' b = wireC (M 0) b ∧ viaC N' b = viaC (M 0) b := by
    intro N' h
    refine ⟨sumI_c2 162 (fun i hi => ?_), sumI_c2 81 (fun i hi => ?_)⟩
    · rw [h _ (by omega) (by omega)]
    · rw [h _ (by omega) (by omega), h _ (by omega) (by omega)]
  have hR1 := (hM.putA 0 (z := q + 0) (v := b) (by decide) (by omega) (by omega)).putA 0 (z := q + 1) (v := a) (by decide) (by omega) (by omega)
  have hk1 := ((MK.refl (G := G) (o := o)).put (a := o + 1) (j := (q + 0).toNat) (v := .int (iI b)) (by omega)).put (a := o + 1) (j := (q + 1).toNat) (v := .int (iI a)) (by omega)
  rw [← setF_id (M := M) (f := 0), uM_set, uM_set] at hR1
  simp only [Int.add_zero] at hR1 hk1 ⊢
  change MR (gput (gput G (o + 1) _ _) (o + 1) _ _) o _ _ at hR1
  refine ⟨by omega, by omega, by omega, by omega, ?_⟩
  generalize gput (gput G (o + 1) q.toNat (.int (iI b))) (o + 1) (q + 1).toNat (.int (iI a)) = G1 at hR1 hk1 ⊢
  have c1 := cells (uN (uN (M 0) q b) (q + 1) a) (fun j j0 j1 => by unfold uN; rw [if_neg (by omega), if_neg (by omega)])
  refine gCall.of (m_wireMany hR1 (n := b) (by omega)) (by decide) (by first | omega | decide) (by first | omega | decide) ?_
  rintro r G' ⟨rfl, rfl⟩
  rw [setF_s, c1.1]
  have wb := wireC_b (N := M 0) (n := b)
  have vb := viaC_b (N := M 0) (n := b)
  refine exS rfl 12 _ _ _ _ _ _ ?_
  simp (disch := omega) only [exB, Nat.reduceAdd, Nat.reduceSub, Nat.reduceMul, Nat.reduceLeDiff, Nat.reduceLT, Nat.reduceEqDiff, Nat.reduceBEq, Int.reduceAdd, Int.reduceSub, Int.reduceMul, Int.reduceNeg, Int.reduceToNat, Int.reduceLE, Int.reduceLT, Int.reduceEq, Int.reduceGE, Int.reduceGT, ↓reduceIte, reduceCtorEq, gm_pe, gm_pn, gc_put, gl_put, gs_put, cd_X4_claims, hR1.f, iI_rt, hq]
  have hR2 := hR1.putA 0 (z := q + 2) (v := wireC (M 0) b) (by decide) (by omega) (by omega)
  have hk2 := hk1.put (a := o + 1) (j := (q + 2).toNat) (v := .int (iI (wireC (M 0) b))) (by omega)
  rw [uM_0s] at hR2
  change MR (gput G' (o + 1) _ _) o _ _ at hR2
  refine ⟨by omega, by omega, ?_⟩
  generalize gput G' (o + 1) (q + 2).toNat (.int (iI (wireC (M 0) b))) = G2 at hR2 hk2 ⊢
  have c2 := cells (uN (uN (uN (M 0) q b) (q + 1) a) (q + 2) (wireC (M 0) b)) (fun j j0 j1 => by unfold uN; rw [if_neg (by omega), if_neg (by omega), if_neg (by omega)])
  refine gCall.of (m_viaMany hR2 (n := b) (by omega)) (by decide) (by first | omega | decide) (by first | omega | decide) ?_
  rintro r G' ⟨rfl, rfl⟩
  rw [setF_s, c2.2]
  have e4 : setF M 0 (uN (uN (uN (M 0) q b) (q + 1) a) (q + 2) (wireC (M 0) b)) 0 4 = M 0 4 := by rw [setF_s]; unfold uN; rw [if_neg (by omega), if_neg (by omega), if_neg (by omega)]
  have b4 := hM.bA (z := 4) (by decide) (by decide)
  refine excS rfl 103 60 _ _ _ _ _ _ ?_
  simp (disch := omega) only [exB, Nat.reduceAdd, Nat.reduceSub, Nat.reduceMul, Nat.reduceLeDiff, Nat.reduceLT, Nat.reduceEqDiff, Nat.reduceBEq, Int.reduceAdd, Int.reduceSub, Int.reduceMul, Int.reduceNeg, Int.reduceToNat, Int.reduceLE, Int.reduceLT, Int.reduceEq, Int.reduceGE, Int.reduceGT, ↓reduceIte, reduceCtorEq, gm_pe, gm_pn, gc_put, gl_put, gs_put, cd_X4_claims, hR2.f, iI_rt, hq, e4]
  have hR3 := (((hR2.putA 0 (z := q + 3) (v := viaC (M 0) b) (by decide) (by omega) (by omega)).putA 0 (z := q + 4) (v := p) (by decide) (by omega) hp).putA 0 (z := q + 5) (v := 0) (by decide) (by omega) (by decide)).putA 0 (z := q + 6) (v := M 0 4) (by decide) (by omega) b4
  have hk3 := (((hk2.put (a := o + 1) (j := (q + 3).toNat) (v := .int (iI (viaC (M 0) b))) (by omega)).put (a := o + 1) (j := (q + 4).toNat) (v := .int (iI p)) (by omega)).put (a := o + 1) (j := (q + 5).toNat) (v := .int (iI 0)) (by omega)).put (a := o + 1) (j := (q + 6).toNat) (v := .int (iI (M 0 4))) (by omega)
  rw [uM_0s, uM_0s, uM_0s, uM_0s] at hR3
  change MR (gput (gput (gput (gput G' (o + 1) _ _) (o + 1) _ _) (o + 1) _ _) (o + 1) _ _) o _ _ at hR3
  have eA : uN (uN (uN (uN (uN (uN (uN (M 0) q b) (q + 1) a) (q + 2) (wireC (M 0) b)) (q + 3) (viaC (M 0) b)) (q + 4) p) (q + 5) 0) (q + 6) (M 0 4) = claA (M 0) a b p := by unfold claA; rw [hq]
  rw [eA] at hR3
  refine ⟨by omega, by omega, by omega, by omega, by omega, by omega, by omega, by omega, ?_⟩
  generalize gput (gput (gput (gput G' (o + 1) (q + 3).toNat (.int (iI (viaC (M 0) b)))) (o + 1) (q + 4).toNat (.int (iI p))) (o + 1) (q + 5).toNat (.int (iI 0))) (o + 1) (q + 6).toNat (.int (iI (M 0 4))) = G3 at hR3 hk3 ⊢
  have eo : ∀ j, j < q ∨ q + 6 < j → claA (M 0) a b p j = M 0 j := by
    intro j hj
    rw [← eA]
    unfold uN
    rw [if_neg (by omega), if_neg (by omega), if_neg (by omega), if_neg (by omega), if_neg (by omega), if_neg (by omega), if_neg (by omega)]
  have hN : claN (M 0) a b p = uN (claR (M 0) (claA (M 0) a b p) b q 162) 6 (M 0 6 + 1) := by unfold claN; rw [hq]
  rw [hN] at hQ
  generalize claA (M 0) a b p = A at hR3 eo hQ
  -- the masks are cleared
  refine up1 (σ := gH) (W := fun k G' => Wp X Y_X4_claims 2 Q 0 0 G' 103 [some (.ref o), some (.int (iI a)), some (.int (iI b)), some (.int (iI p)), some (.int (iI q)), some (.int (iI k))] []) (P := fun k G' => MR G' o (setF M 0 (fun j => if q + 7 ≤ j ∧ j < q + 7 + k then 0 else A j)) V ∧ MK G G' o) (hi := 6) 0 ?_ ?_ 0 G3 (by decide) (by decide) ⟨by
    have : (fun j => if q + 7 ≤ j ∧ j < q + 7 + 0 then 0 else A j) = A := by funext j; rw [if_neg (by omega)]
    rw [this]; exact hR3, hk3⟩
  · rintro k G4 k0 k1 ⟨hR, hk⟩ ih
    have h4 := hR.putA 0 (z := q + 7 + k) (v := 0) (by decide) (by omega) (by decide)
    rw [uM_0s] at h4
    have e : uN (fun j => if q + 7 ≤ j ∧ j < q + 7 + k then 0 else A j) (q + 7 + k) 0 = fun j => if q + 7 ≤ j ∧ j < q + 7 + (k + 1) then 0 else A j := by
      funext j
      unfold uN
      by_cases h : j = q + 7 + k
      · rw [if_pos h, if_pos (by omega)]
      · rw [if_neg h]
        dsimp only
        by_cases h2 : q + 7 ≤ j ∧ j < q + 7 + k
        · rw [if_pos h2, if_pos (by omega)]
        · rw [if_neg h2, if_neg (by omega)]
    rw [e] at h4
    refine excS rfl 103 20 _ _ _ _ _ _ ?_
    simp (disch := omega) only [exB, Nat.reduceAdd, Nat.reduceSub, Nat.reduceMul, Nat.reduceLeDiff, Nat.reduceLT, Nat.reduceEqDiff, Nat.reduceBEq, Int.reduceAdd, Int.reduceSub, Int.reduceMul, Int.reduceNeg, Int.reduceToNat, Int.reduceLE, Int.reduceLT, Int.reduceEq, Int.reduceGE, Int.reduceGT, ↓reduceIte, reduceCtorEq, gm_pe, gm_pn, gc_put, gl_put, gs_put, cd_X4_claims, hR.f, iI_rt]
    exact ⟨fun z => absurd z (by omega), fun _ => ⟨by omega, by omega, ih _ ⟨h4, hk.put (a := o + 1) (by omega)⟩⟩⟩
  rintro G4 ⟨hR4, hk4⟩
  have e0 : (fun j => if q + 7 ≤ j ∧ j < q + 7 + 6 then 0 else A j) = claR (M 0) A b q 0 := by
    funext j
    unfold claR
    by_cases h : q + 7 ≤ j ∧ j < q + 13
    · rw [if_pos (by omega), if_pos h]
      unfold mskP
      rw [show (min (0 - 27 * (j - q - 7)) 27).toNat = 0 from by omega]
      rfl
    · rw [if_neg (by omega), if_neg h]
  rw [e0] at hR4
  refine excS rfl 133 6 _ _ _ _ _ _ ?_
  simp (disch := omega) only [exB, Nat.reduceAdd, Nat.reduceSub, Nat.reduceMul, Nat.reduceLeDiff, Nat.reduceLT, Nat.reduceEqDiff, Nat.reduceBEq, Int.reduceAdd, Int.reduceSub, Int.reduceMul, Int.reduceNeg, Int.reduceToNat, Int.reduceLE, Int.reduceLT, Int.reduceEq, Int.reduceGE, Int.reduceGT, ↓reduceIte, reduceCtorEq, gm_pe, gm_pn, gc_put, gl_put, gs_put, cd_X4_claims, iI_rt]
  refine up1 (σ := gH) (W := fun c G' => Wp X Y_X4_claims 2 Q 0 0 G' 133 [some (.ref o), some (.int (iI a)), some (.int (iI b)), some (.int (iI p)), some (.int (iI q)), some (.int (iI c))] []) (P := fun c G' => MR G' o (setF M 0 (claR (M 0) A b q c)) V ∧ MK G G' o) (hi := 162) 0 ?_ ?_ 0 G4 (by decide) (by decide) ⟨hR4, hk4⟩
  · rintro c G5 c0 c1 ⟨hR, hk⟩ ih
    have z0 : setF M 0 (claR (M 0) A b q c) 0 = claR (M 0) A b q c := setF_s
    have zc : claR (M 0) A b q c (7 + c) = M 0 (7 + c) := by
      unfold claR
      rw [if_neg (by omega), eo _ (by omega)]
    have zq : claR (M 0) A b q c (q + 7 + c / 27) = mskP (M 0) b (c / 27) c := by
      unfold claR
      rw [if_pos (by omega), show q + 7 + c / 27 - q - 7 = c / 27 from by omega]
    have bc := hM.bA (z := 7 + c) (by omega) (by omega)
    have bm := mskP_b (N := M 0) (b := b) (k := c / 27) (c := c)
    have em : ∀ k, 0 ≤ k → k < 6 → mskP (M 0) b k (c + 1) = mskP (M 0) b k c + (if k = c / 27 ∧ M 0 (7 + c) = 1 + b then 2 ^ (c % 27).toNat else 0) := by
      intro k k0 k1
      unfold mskP
      by_cases h : k = c / 27
      · rw [show (min (c + 1 - 27 * k) 27).toNat = (c % 27).toNat + 1 from by omega, show (min (c - 27 * k) 27).toNat = (c % 27).toNat from by omega]
        show vicS (mskF (M 0) b k) (c % 27).toNat + (if 0 < mskF (M 0) b k ((c % 27).toNat : Int) then 2 ^ (c % 27).toNat else 0) = _
        congr 1
        unfold mskF
        rw [show 7 + (27 * k + ((c % 27).toNat : Int)) = 7 + c from by omega]
        by_cases h2 : M 0 (7 + c) = 1 + b
        · rw [if_pos h2, if_pos (by decide), if_pos ⟨h, h2⟩]
        · rw [if_neg h2, if_neg (by decide), if_neg (fun z => h2 z.2)]
      · rw [if_neg (fun z => h z.1), Int.add_zero]
        congr 1
        omega
    have bq : 0 ≤ mskP (M 0) b (c / 27) c ∧ mskP (M 0) b (c / 27) c < 2 ^ (c % 27).toNat := by
      unfold mskP
      rw [show (min (c - 27 * (c / 27)) 27).toNat = (c % 27).toNat from by omega]
      exact vicS_b _
    have st : ∀ v, v = mskP (M 0) b (c / 27) (c + 1) → Wp X Y_X4_claims 2 Q 0 0 (gput G5 (o + 1) (q + 7 + c / 27).toNat (.int (iI v))) 133 [some (.ref o), some (.int (iI a)), some (.int (iI b)), some (.int (iI p)), some (.int (iI q)), some (.int (iI (c + 1)))] [] := by
      intro v hv
      have bm2 := mskP_b (N := M 0) (b := b) (k := c / 27) (c := c + 1)
      have h4 := hR.putA 0 (z := q + 7 + c / 27) (v := v) (by decide) (by omega) (by omega)
      have e : uN (claR (M 0) A b q c) (q + 7 + c / 27) v = claR (M 0) A b q (c + 1) := by
        funext j
        unfold uN claR
        by_cases h : j = q + 7 + c / 27
        · rw [if_pos h, if_pos (by omega), hv, show j - q - 7 = c / 27 from by omega]
        · rw [if_neg h]
          by_cases h2 : q + 7 ≤ j ∧ j < q + 13
          · rw [if_pos h2, if_pos h2, em _ (by omega) (by omega), if_neg (fun z => h (by omega)), Int.add_zero]
          · rw [if_neg h2, if_neg h2]
      rw [uM_0s, e] at h4
      exact ih _ ⟨h4, hk.put (a := o + 1) (by omega)⟩
    have em1 := em (c / 27) (by omega) (by omega)
    refine excS rfl 133 40 _ _ _ _ _ _ ?_
    simp (disch := omega) only [exB, Nat.reduceAdd, Nat.reduceSub, Nat.reduceMul, Nat.reduceLeDiff, Nat.reduceLT, Nat.reduceEqDiff, Nat.reduceBEq, Int.reduceAdd, Int.reduceSub, Int.reduceMul, Int.reduceNeg, Int.reduceToNat, Int.reduceLE, Int.reduceLT, Int.reduceEq, Int.reduceGE, Int.reduceGT, ↓reduceIte, reduceCtorEq, gm_pe, gm_pn, gc_put, gl_put, gs_put, cd_X4_claims, hR.f, iI_rt, iI_div, iI_rem, z0, zc, zq]
    refine ⟨fun z => absurd z (by omega), fun _ => ⟨by omega, by omega, by omega, by omega, fun h => ⟨by omega, by omega, ?_⟩, fun h => ⟨by omega, by omega, ?_⟩⟩⟩
    · rw [if_neg (fun z => h z.2), Int.add_zero] at em1
      rw [iI_or0]
      exact st _ em1.symm
    · rw [if_pos ⟨rfl, Classical.not_not.mp h⟩] at em1
      rw [iI_and31 (by omega), iI_shl (by omega), iI_orN (by omega) bq]
      exact st _ em1.symm
  · rintro G5 ⟨hR, hk⟩
    have z0 : setF M 0 (claR (M 0) A b q 162) 0 = claR (M 0) A b q 162 := setF_s
    have z6 : claR (M 0) A b q 162 6 = M 0 6 := by
      unfold claR
      rw [if_neg (by omega), eo _ (by omega)]
    refine exS rfl 20 _ _ _ _ _ _ ?_
    simp (disch := omega) only [exB, Nat.reduceAdd, Nat.reduceSub, Nat.reduceMul, Nat.reduceLeDiff, Nat.reduceLT, Nat.reduceEqDiff, Nat.reduceBEq, Int.reduceAdd, Int.reduceSub, Int.reduceMul, Int.reduceNeg, Int.reduceToNat, Int.reduceLE, Int.reduceLT, Int.reduceEq, Int.reduceGE, Int.reduceGT, ↓reduceIte, reduceCtorEq, gm_pe, gm_pn, gc_put, gl_put, gs_put, cd_X4_claims, hR.f, iI_rt, z0, z6]
    have h4 := hR.putA 0 (z := 6) (v := M 0 6 + 1) (by decide) (by omega) (by omega)
    rw [uM_0s] at h4
    subst hQ
    exact ⟨rfl, hk.put (a := o + 1) (by omega), h4⟩
end
