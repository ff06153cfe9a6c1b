/-! THE MODEL 6: neighbours, what a step costs -/
set_option maxRecDepth 100000
set_option maxHeartbeats 4000000
def nb (c k : Int) : Int :=
  if c < 81 then (if k = 0 then (if 0 < c % 81 % 9 then c - 1 else -1) else if k = 1 then (if c % 81 % 9 < 8 then c + 1 else -1) else c + 81)
  else (if k = 0 then c - 81 else if k = 1 then (if 0 < c % 81 / 9 then c - 9 else -1) else if c % 81 / 9 < 8 then c + 9 else -1)
theorem nb_b {c k : Int} (hc : 0 ≤ c ∧ c < 162) : nb c k = -1 ∨ (0 ≤ nb c k ∧ nb c k < 162) := by
  unfold nb
  split <;> (repeat' split) <;> omega
/-- the row's numbers are in bounds, as a route's search needs it -/
def RC (N : Int → Int) : Prop := (1 ≤ N 0 ∧ N 0 ≤ 20) ∧ (0 ≤ N 1 ∧ N 1 ≤ 50) ∧ (∀ c, 0 ≤ c → c < 162 → 0 ≤ N (7 + c) ∧ N (7 + c) ≤ 20) ∧ ∀ m, 0 ≤ m → m ≤ 5 → 0 ≤ N (169 + 9 * m + 3) ∧ N (169 + 9 * m + 3) ≤ 9
abbrev fre (N : Int → Int) (n : Int) (J : Int → Int) (b : Int) : Prop := J b = 1 ∨ N (7 + b) = 0 ∨ N (7 + b) = 11 + n
abbrev dgb (N : Int → Int) (dg b : Int) : Prop := dg = 1 ∧ 1 ≤ N (7 + b) ∧ N (7 + b) ≤ 6
/-- a cell can be entered; what that costs but for the step; the step; both -/
abbrev en (N : Int → Int) (n dg : Int) (J : Int → Int) (b : Int) : Prop := fre N n J b ∨ dgb N dg b
def ec (N : Int → Int) (n : Int) (J : Int → Int) (b : Int) : Int := if fre N n J b then 0 else N 1 + N (169 + 9 * (N (7 + b) - 1) + 3)
def wy (N : Int → Int) (a b : Int) : Int := if a % 81 = b % 81 then N 0 else 1
def sc (N : Int → Int) (n : Int) (J : Int → Int) (a b : Int) : Int := wy N a b + ec N n J b
theorem sc_b {N : Int → Int} {n dg : Int} {J : Int → Int} {a b : Int} (h : RC N) (hb : 0 ≤ b ∧ b < 162) (he : en N n dg J b) : 1 ≤ sc N n J a b ∧ sc N n J a b ≤ 79 := by
  obtain ⟨h0, h1, h2, h3⟩ := h
  have hw : 1 ≤ wy N a b ∧ wy N a b ≤ 20 := by unfold wy; split <;> omega
  have hc : 0 ≤ ec N n J b ∧ ec N n J b ≤ 59 := by
    unfold ec
    split
    · omega
    · next hf =>
      obtain ⟨-, q1, q2⟩ := he.resolve_left hf
      have := h3 (N (7 + b) - 1) (by omega) (by omega)
      omega
  unfold sc
  omega
/-- bits -/
abbrev bit (z : Int) : Prop := z = 0 ∨ z = 1
section
variable {X : gX} {G : gH} {o : Nat} {N : Int → Int} {L : List (Int → Int)} {T : List Int} {M : Nat → Int → Int} {V : Nat → Int}
theorem m_neighbour {c k : Int} (hc : 0 ≤ c ∧ c < 162) (hk : 0 ≤ k ∧ k < 3) : Tri X 1 Y_X4_neighbour [.int (iI c), .int (iI k)] 0 0 G (fun r G' => r = some (.int (iI (nb c k))) ∧ G' = G) := by
  refine Tri.of (by decide +kernel) (Nat.le_of_ble_eq_true rfl) ?_
  refine exS rfl 60 _ _ _ _ _ _ ?_
  simp (disch := omega) only [exB, Nat.reduceAdd, Nat.reduceSub, Nat.reduceMul, Nat.reduceLeDiff, Nat.reduceLT, Nat.reduceEqDiff, Nat.reduceBEq, Int.reduceAdd, Int.reduceSub, Int.reduceMul, Int.reduceNeg, Int.reduceToNat, Int.reduceLE, Int.reduceLT, Int.reduceEq, Int.reduceGE, Int.reduceGT, ↓reduceIte, reduceCtorEq, gm_pe, gm_pn, gc_put, gl_put, gs_put, cd_X4_neighbour, iI_rt, iI_rem, iI_div]
  unfold nb
  grind
theorem MR.bJ {G : gH} {o : Nat} {M : Nat → Int → Int} {V : Nat → Int} (h : MR G o M V) {z : Int} (h0 : 0 ≤ z) (h1 : z < 162) : i32 (M 9 z) := (h.2.2.2.2.2.2.2.2.1.2.2 z h0 h1).2
theorem MR.bF {G : gH} {o : Nat} {M : Nat → Int → Int} {V : Nat → Int} (h : MR G o M V) {z : Int} (h0 : 0 ≤ z) (h1 : z < 162) : i32 (M 8 z) := (h.2.2.2.2.2.2.2.1.2.2 z h0 h1).2
theorem m_into {n a b : Int} (hM : MR G o M V) (hr : RC (M 0)) (hn : 0 ≤ n ∧ n < 6) (ha : 0 ≤ a ∧ a < 162) (hb : 0 ≤ b ∧ b < 162) (hJ : bit (M 9 b)) (hd : bit (V 13)) : Tri X 2 Y_X4_into [.ref o, .int (iI n), .int (iI a), .int (iI b)] 0 0 G (fun r G' => r = some (.int (iI (if en (M 0) n (V 13) (M 9) b then sc (M 0) n (M 9) a b else 1000000000))) ∧ G' = G) := by
  obtain ⟨h0, h1, h2, h3⟩ := hr
  have b1 := h2 b hb.1 hb.2
  have b2 := hM.bJ hb.1 hb.2
  have b3 := hM.bV 13 (by decide)
  refine Tri.of (by decide +kernel) (Nat.le_of_ble_eq_true rfl) ?_
  generalize hQ : (fun (r : Option Value) G' => r = some (.int (iI (if en (M 0) n (V 13) (M 9) b then sc (M 0) n (M 9) a b else 1000000000))) ∧ G' = G) = Q
  -- from 34 on, the way known
  have key : ∀ w : Int, w = wy (M 0) a b → Wp X Y_X4_into 2 Q 0 0 G 34 [some (.ref o), some (.int (iI n)), some (.int (iI a)), some (.int (iI b)), some (.int (iI (M 0 (7 + b)))), some (.int (iI w))] [] := by
    intro w hw
    have hwb : 1 ≤ w ∧ w ≤ 20 := by rw [hw]; unfold wy; split <;> omega
    have hfre : fre (M 0) n (M 9) b → Q (some (.int (iI w))) G := by
      intro h
      rw [if_pos (Or.inl h)] at hQ
      subst hQ
      unfold sc ec
      rw [if_pos h, ← hw, Int.add_zero]
      exact ⟨rfl, rfl⟩
    have hno : ¬ en (M 0) n (V 13) (M 9) b → Q (some (.int (iI 1000000000))) G := by
      intro h
      rw [if_neg h] at hQ
      subst hQ
      exact ⟨rfl, rfl⟩
    refine exS rfl 30 _ _ _ _ _ _ ?_
    simp (disch := omega) only [exB, Nat.reduceAdd, Nat.reduceSub, Nat.reduceMul, Nat.reduceLeDiff, Nat.reduceLT, Nat.reduceEqDiff, Nat.reduceBEq, Int.reduceAdd, Int.reduceSub, Int.reduceMul, Int.reduceNeg, Int.reduceToNat, Int.reduceLE, Int.reduceLT, Int.reduceEq, Int.reduceGE, Int.reduceGT, ↓reduceIte, reduceCtorEq, gm_pe, gm_pn, gc_put, gl_put, gs_put, cd_X4_into, hM.f, iI_rt]
    refine ⟨by omega, by omega, fun j1 => hfre (Or.inl (by omega)), fun j1 => ⟨fun j2 => hfre (Or.inr (Or.inl j2)), fun j2 => ⟨fun j3 => ?_, fun j3 => hfre (Or.inr (Or.inr (by omega)))⟩⟩⟩
    have nf : ¬ fre (M 0) n (M 9) b := by
      rintro (q | q | q) <;> omega
    refine ⟨fun d0 => hno (fun q => by have := q.resolve_left nf; omega), fun d0 => ?_⟩
    refine gCall.of (m_in (v := M 0 (7 + b)) (a := 1) (b := 6) (by omega) (by decide) (by decide)) (by decide) (by first | omega | decide) (by first | omega | decide) ?_
    rintro r G' ⟨rfl, rfl⟩
    by_cases hi : 1 ≤ M 0 (7 + b) ∧ M 0 (7 + b) ≤ 6
    · rw [if_pos hi]
      refine exS rfl 16 _ _ _ _ _ _ ?_
      simp (disch := omega) only [exB, Nat.reduceAdd, Nat.reduceSub, Nat.reduceMul, Nat.reduceLeDiff, Nat.reduceLT, Nat.reduceEqDiff, Nat.reduceBEq, Int.reduceAdd, Int.reduceSub, Int.reduceMul, Int.reduceNeg, Int.reduceToNat, Int.reduceLE, Int.reduceLT, Int.reduceEq, Int.reduceGE, Int.reduceGT, ↓reduceIte, reduceCtorEq, gm_pe, gm_pn, gc_put, gl_put, gs_put, cd_X4_into, hM.f, iI_rt]
      have b4 := h3 (M 0 (7 + b) - 1) (by omega) (by omega)
      refine gCall.of (m_of hM (n := M 0 (7 + b) - 1) (w := 3) (by omega)) (by decide) (by first | omega | decide) (by first | omega | decide) ?_
      rintro r G' ⟨rfl, rfl⟩
      refine exS rfl 6 _ _ _ _ _ _ ?_
      simp (disch := omega) only [exB, Nat.reduceAdd, Nat.reduceSub, Nat.reduceMul, Nat.reduceLeDiff, Nat.reduceLT, Nat.reduceEqDiff, Nat.reduceBEq, Int.reduceAdd, Int.reduceSub, Int.reduceMul, Int.reduceNeg, Int.reduceToNat, Int.reduceLE, Int.reduceLT, Int.reduceEq, Int.reduceGE, Int.reduceGT, ↓reduceIte, reduceCtorEq, gm_pe, gm_pn, gc_put, gl_put, gs_put, cd_X4_into, hM.f, iI_rt]
      rw [if_pos (Or.inr ⟨by omega, hi⟩)] at hQ
      subst hQ
      refine ⟨?_, rfl⟩
      unfold sc ec
      rw [if_neg nf, ← hw]
      congr 3
      omega
    · rw [if_neg hi]
      refine exS rfl 6 _ _ _ _ _ _ ?_
      simp (disch := omega) only [exB, Nat.reduceAdd, Nat.reduceSub, Nat.reduceMul, Nat.reduceLeDiff, Nat.reduceLT, Nat.reduceEqDiff, Nat.reduceBEq, Int.reduceAdd, Int.reduceSub, Int.reduceMul, Int.reduceNeg, Int.reduceToNat, Int.reduceLE, Int.reduceLT, Int.reduceEq, Int.reduceGE, Int.reduceGT, ↓reduceIte, reduceCtorEq, gm_pe, gm_pn, gc_put, gl_put, gs_put, cd_X4_into, hM.f, iI_rt]
      exact hno (fun q => hi (q.resolve_left nf).2)
  refine excS rfl 34 30 _ _ _ _ _ _ ?_
  simp (disch := omega) only [exB, Nat.reduceAdd, Nat.reduceSub, Nat.reduceMul, Nat.reduceLeDiff, Nat.reduceLT, Nat.reduceEqDiff, Nat.reduceBEq, Int.reduceAdd, Int.reduceSub, Int.reduceMul, Int.reduceNeg, Int.reduceToNat, Int.reduceLE, Int.reduceLT, Int.reduceEq, Int.reduceGE, Int.reduceGT, ↓reduceIte, reduceCtorEq, gm_pe, gm_pn, gc_put, gl_put, gs_put, cd_X4_into, hM.f, iI_rt, iI_rem]
  refine ⟨by omega, by omega, fun hq => key 1 ?_, fun hq => key (M 0 0) ?_⟩
  · unfold wy; rw [if_neg hq]
  · unfold wy; rw [if_pos (Classical.not_not.mp hq)]
end
