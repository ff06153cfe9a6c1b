/-! THE MODEL 15: appeals; digsFor -/
set_option maxRecDepth 100000
set_option maxHeartbeats 4000000
def appZ (N : Int → Int) (c : Int) : Int := if isC N c then (if clA N c 5 = 0 ∧ N 4 - clA N c 6 ≤ N 3 then appC (uN N (223 + 13 * c + 5) 1) else -1000002) else -1000001
def appN (N : Int → Int) (c : Int) : Int → Int := if isC N c ∧ clA N c 5 = 0 ∧ N 4 - clA N c 6 ≤ N 3 then actN (uN N (223 + 13 * c + 5) 1) else N
/-- what a dig does to one victim -/
def digS (N0 : Int → Int) (l : List Int) (a n : Int) (N : Int → Int) : Int → Int := if 0 < thr N0 l n then (let p := dueN N l n; losN (adN (claN (paysN N a n p) a n p) n 6 1) n) else N
def digL (N0 : Int → Int) (l : List Int) (a : Int) : Nat → (Int → Int) → (Int → Int)
  | 0, N => N
  | k + 1, N => digS N0 l a k (digL N0 l a k N)
def digN1 (N : Int → Int) (a : Int) (l : List Int) : Int → Int := wirN (digL N l a (N 5).toNat (actN N)) a l
/-- why a dig is refused; 0: it isn't -/
def digE (N : Int → Int) (n : Int) (R : Option (List Int × Int)) : Int := if isN N n then (if jnd N n then -1000002 else match R with
  | none => -1000002
  | some (l, _) => if duesN N l > N (169 + 9 * n + 4) then -1000002 else if N 6 + popc (vicN N l).toNat > 12 then -1000003 else 0) else -1000001
def digZ (N : Int → Int) (n : Int) (R : Option (List Int × Int)) : Int := if digE N n R = 0 then match R with
  | none => 0
  | some (l, _) => duesN N l else digE N n R
def digN (N : Int → Int) (n : Int) (R : Option (List Int × Int)) : Int → Int := if digE N n R = 0 then match R with
  | none => N
  | some (l, _) => digN1 N n l else N
theorem adN_off {N : Int → Int} {n w b j : Int} (h : j ≠ 169 + 9 * n + w) : adN N n w b j = N j := by unfold adN uN; rw [if_neg h]
theorem paysN_off {N : Int → Int} {a b c j : Int} (h : ∀ n, n = a ∨ n = b → j ≠ 169 + 9 * n + 4 ∧ j ≠ 169 + 9 * n + 7 ∧ j ≠ 169 + 9 * n + 8) : paysN N a b c j = N j := by
  have ha := h a (Or.inl rfl)
  have hb := h b (Or.inr rfl)
  unfold paysN
  rw [adN_off hb.2.2, adN_off hb.1, adN_off ha.2.1, adN_off ha.1]
theorem losN_off {N : Int → Int} {m j : Int} (h : j < 7 ∨ 169 ≤ j) (h2 : j ≠ 169 + 9 * m + 5) : losN N m j = N j := by
  unfold losN uN losR; rw [if_neg h2, if_neg (by omega)]
theorem claN_off {N : Int → Int} {a b p j : Int} (h : j ≠ 6) (h2 : j < 223 + 13 * N 6 ∨ 223 + 13 * N 6 + 13 ≤ j) : claN N a b p j = N j := by
  unfold claN uN claR
  rw [if_neg h, if_neg (by omega)]
  unfold claA uN
  rw [if_neg (by omega), if_neg (by omega), if_neg (by omega), if_neg (by omega), if_neg (by omega), if_neg (by omega), if_neg (by omega)]
theorem claN_6 {N : Int → Int} {a b p : Int} : claN N a b p 6 = N 6 + 1 := by unfold claN uN; rw [if_pos rfl]
theorem sumI_mono {f : Int → Int} (hf : ∀ i, 0 ≤ f i) (a : Nat) : ∀ b : Nat, a ≤ b → sumI f a ≤ sumI f b
  | 0, h => by rw [show a = 0 from by omega]; exact Int.le_refl _
  | b + 1, h => by
    by_cases e : a = b + 1
    · rw [e]; exact Int.le_refl _
    · have := sumI_mono hf a b (by omega)
      have := hf b
      show sumI f a ≤ sumI f b + f b
      omega
theorem digS_off {N0 N : Int → Int} {l : List Int} {a n j : Int} (hN : 0 ≤ N 6) (ha : 0 ≤ a ∧ a < 6) (hn : 0 ≤ n ∧ n < 6) (hj : (0 ≤ j ∧ j ≤ 5) ∨ ∃ m, 0 ≤ m ∧ m < 6 ∧ ∃ w, 0 ≤ w ∧ w < 4 ∧ j = 169 + 9 * m + w) : digS N0 l a n N j = N j := by
  unfold digS
  split
  · dsimp only
    have h6 : paysN N a n (dueN N l n) 6 = N 6 := paysN_off (fun x hx => by omega)
    have hj2 : (0 ≤ j ∧ j ≤ 5) ∨ (169 ≤ j ∧ j < 223 ∧ (∀ n : Int, j ≠ 169 + 9 * n + 4 ∧ j ≠ 169 + 9 * n + 5 ∧ j ≠ 169 + 9 * n + 6 ∧ j ≠ 169 + 9 * n + 7 ∧ j ≠ 169 + 9 * n + 8)) := by
      rcases hj with h | ⟨m, m0, m1, w, w0, w1, e⟩
      · exact Or.inl h
      · exact Or.inr ⟨by omega, by omega, fun n => by omega⟩
    have hz : ∀ n : Int, 0 ≤ n → n < 6 → j ≠ 169 + 9 * n + 4 ∧ j ≠ 169 + 9 * n + 5 ∧ j ≠ 169 + 9 * n + 6 ∧ j ≠ 169 + 9 * n + 7 ∧ j ≠ 169 + 9 * n + 8 := by
      intro n n0 n1
      rcases hj2 with h | ⟨_, _, h⟩
      · omega
      · exact h n
    have z1 := hz n hn.1 hn.2
    rw [losN_off (by omega) z1.2.1, adN_off z1.2.2.1, claN_off (by omega) (by rw [h6]; omega), paysN_off]
    intro x hx
    have := hz x (by omega) (by omega)
    exact ⟨this.1, this.2.2.2.1, this.2.2.2.2⟩
  · rfl
theorem digS_6 {N0 N : Int → Int} {l : List Int} {a n : Int} (ha : 0 ≤ a ∧ a < 6) (hn : 0 ≤ n ∧ n < 6) : digS N0 l a n N 6 = N 6 + if 0 < thr N0 l n then 1 else 0 := by
  unfold digS
  split
  · dsimp only
    have h6 : paysN N a n (dueN N l n) 6 = N 6 := paysN_off (fun x hx => by omega)
    rw [losN_off (by omega) (by omega), adN_off (by omega), claN_6, h6]
  · rw [Int.add_zero]
theorem popc_p : ∀ k : Fin 6, ∀ s : Fin 64, s.val < 2 ^ k.val → popc (s.val + 2 ^ k.val) = popc s.val + 1 := by decide +kernel
theorem popc_v {f : Int → Int} : ∀ k : Nat, k ≤ 6 → (popc (vicS f k).toNat : Int) = sumI (fun i => if 0 < f i then 1 else 0) k
  | 0, _ => by simp [vicS, sumI, popc]
  | k + 1, h => by
    have ih := popc_v (f := f) k (by omega)
    have hb := vicS_b (f := f) k
    have e2 : ((2 ^ k : Nat) : Int) = 2 ^ k := by rw [Int.natCast_pow]; rfl
    have p6 : 2 ^ k ≤ 2 ^ 5 := Nat.pow_le_pow_right (by decide) (by omega)
    have := popc_p ⟨k, by omega⟩ ⟨(vicS f k).toNat, by omega⟩ (by show (vicS f k).toNat < 2 ^ k; omega)
    dsimp only at this
    show (popc (vicS f k + (if 0 < f k then 2 ^ k else 0)).toNat : Int) = sumI _ k + (if 0 < f k then 1 else 0)
    rw [← ih]
    split
    · rw [show (vicS f k + 2 ^ k).toNat = (vicS f k).toNat + 2 ^ k from by omega, this]; omega
    · rw [Int.add_zero, Int.add_zero]
theorem digL_f {N0 N : Int → Int} {l : List Int} {a : Int} (hN : 0 ≤ N 6) (ha : 0 ≤ a ∧ a < 6) : ∀ k : Nat, k ≤ 6 → digL N0 l a k N 6 = N 6 + sumI (fun i => if 0 < thr N0 l i then 1 else 0) k ∧ ∀ j, ((0 ≤ j ∧ j ≤ 5) ∨ ∃ m, 0 ≤ m ∧ m < 6 ∧ ∃ w, 0 ≤ w ∧ w < 4 ∧ j = 169 + 9 * m + w) → digL N0 l a k N j = N j
  | 0, _ => ⟨by simp [digL, sumI], fun _ _ => rfl⟩
  | k + 1, h => by
    obtain ⟨h1, h2⟩ := digL_f (N0 := N0) (N := N) (l := l) hN ha k (by omega)
    have hs := sumI_b (f := fun i => if 0 < thr N0 l i then 1 else 0) (fun i => by split <;> decide) k
    refine ⟨?_, fun j hj => ?_⟩
    · show digS N0 l a k (digL N0 l a k N) 6 = N 6 + (sumI _ k + (if 0 < thr N0 l k then 1 else 0))
      rw [digS_6 ha (by omega), h1]
      omega
    · show digS N0 l a k (digL N0 l a k N) j = N j
      rw [digS_off (by omega) ha (by omega) hj, h2 j hj]
section
variable {X : gX} {G : gH} {o : Nat} {N : Int → Int} {L : List (Int → Int)} {T : List Int} {M : Nat → Int → Int} {V : Nat → Int} {l : List Int} {K : Int}
theorem m_appeals {c : Int} (hM : MR G o M V) (hB : RowB K (M 0)) (hc : i32 c) : Tri X 3 Y_X4_appeals [.ref o, .int (iI c)] 0 0 G (APost G o M V (appZ (M 0) c) (appN (M 0) c)) := by
  have h6 := hB.2.1.2
  have b4 := hB.2.2.2.1
  have hK := hB.1
  have b3 := hB.2.2.1.2.2.2
  refine Tri.of (by decide +kernel) (Nat.le_of_ble_eq_true rfl) ?_
  generalize hQ : APost G o M V (appZ (M 0) c) (appN (M 0) c) = Q
  refine exS rfl 6 _ _ _ _ _ _ ?_
  simp (disch := omega) only [exB, Nat.reduceAdd, Nat.reduceSub, Nat.reduceMul, Nat.reduceLeDiff, Nat.reduceLT, Nat.reduceEqDiff, Nat.reduceBEq, Int.reduceAdd, Int.reduceSub, Int.reduceMul, Int.reduceNeg, Int.reduceToNat, Int.reduceLE, Int.reduceLT, Int.reduceEq, Int.reduceGE, Int.reduceGT, ↓reduceIte, reduceCtorEq, gm_pe, gm_pn, gc_put, gl_put, gs_put, cd_X4_appeals, hM.f]
  refine gCall.of (m_isClaim hM hc (by omega)) (by decide) (by first | omega | decide) (by first | omega | decide) ?_
  rintro r G' ⟨rfl, rfl⟩
  by_cases h : isC (M 0) c
  case neg =>
    rw [if_neg h]
    refine exS rfl 6 _ _ _ _ _ _ ?_
    simp (disch := omega) only [exB, Nat.reduceAdd, Nat.reduceSub, Nat.reduceMul, Nat.reduceLeDiff, Nat.reduceLT, Nat.reduceEqDiff, Nat.reduceBEq, Int.reduceAdd, Int.reduceSub, Int.reduceMul, Int.reduceNeg, Int.reduceToNat, Int.reduceLE, Int.reduceLT, Int.reduceEq, Int.reduceGE, Int.reduceGT, ↓reduceIte, reduceCtorEq, gm_pe, gm_pn, gc_put, gl_put, gs_put, cd_X4_appeals, hM.f, iI_rt]
    subst hQ
    unfold appZ appN
    rw [if_neg h, if_neg (fun q => h q.1)]
    exact AP.same hM
  rw [if_pos h]
  have hcb := hB.2.2.2.2.2.2 c (by omega) (by omega)
  have e5 : clA (M 0) c 5 = M 0 (223 + 13 * c + 5) := rfl
  have e6 : clA (M 0) c 6 = M 0 (223 + 13 * c + 6) := rfl
  have f5 := hcb.2.2.2.2.2.1
  have f6 := hcb.2.2.2.2.2.2.1
  refine exS rfl 8 _ _ _ _ _ _ ?_
  simp (disch := omega) only [exB, Nat.reduceAdd, Nat.reduceSub, Nat.reduceMul, Nat.reduceLeDiff, Nat.reduceLT, Nat.reduceEqDiff, Nat.reduceBEq, Int.reduceAdd, Int.reduceSub, Int.reduceMul, Int.reduceNeg, Int.reduceToNat, Int.reduceLE, Int.reduceLT, Int.reduceEq, Int.reduceGE, Int.reduceGT, ↓reduceIte, reduceCtorEq, gm_pe, gm_pn, gc_put, gl_put, gs_put, cd_X4_appeals, hM.f, iI_rt]
  refine gCall.of (m_claimAt hM (c := c) (w := 5) (by omega)) (by decide) (by first | omega | decide) (by first | omega | decide) ?_
  rintro r G' ⟨rfl, rfl⟩
  have no : ¬ (clA (M 0) c 5 = 0 ∧ M 0 4 - clA (M 0) c 6 ≤ M 0 3) → Q (some (.int (iI (-1000002)))) G' := by
    intro q
    subst hQ
    unfold appZ appN
    rw [if_pos h, if_neg q, if_neg (fun z => q z.2)]
    exact AP.same hM
  refine exS rfl 6 _ _ _ _ _ _ ?_
  simp (disch := omega) only [exB, Nat.reduceAdd, Nat.reduceSub, Nat.reduceMul, Nat.reduceLeDiff, Nat.reduceLT, Nat.reduceEqDiff, Nat.reduceBEq, Int.reduceAdd, Int.reduceSub, Int.reduceMul, Int.reduceNeg, Int.reduceToNat, Int.reduceLE, Int.reduceLT, Int.reduceEq, Int.reduceGE, Int.reduceGT, ↓reduceIte, reduceCtorEq, gm_pe, gm_pn, gc_put, gl_put, gs_put, cd_X4_appeals, hM.f, iI_rt]
  refine ⟨fun q => no (fun z => q z.1), fun q => ?_⟩
  refine gCall.of (m_since hM (c := c) (by omega)) (by decide) (by first | omega | decide) (by first | omega | decide) ?_
  rintro r G' ⟨rfl, rfl⟩
  have h5 := (hM.putA 0 (z := 223 + 13 * c + 5) (v := 1) (by decide) (by omega) (by decide)).putA 0 (z := 4) (v := M 0 4 + 1) (by decide) (by decide) (by omega)
  rw [uM_00] at h5
  rw [uM_00, setF_s] at h5
  have e4 : setF M 0 (uN (M 0) (223 + 13 * c + 5) 1) 0 = uN (M 0) (223 + 13 * c + 5) 1 := setF_s
  refine exS rfl 40 _ _ _ _ _ _ ?_
  simp (disch := omega) only [exB, Nat.reduceAdd, Nat.reduceSub, Nat.reduceMul, Nat.reduceLeDiff, Nat.reduceLT, Nat.reduceEqDiff, Nat.reduceBEq, Int.reduceAdd, Int.reduceSub, Int.reduceMul, Int.reduceNeg, Int.reduceToNat, Int.reduceLE, Int.reduceLT, Int.reduceEq, Int.reduceGE, Int.reduceGT, ↓reduceIte, reduceCtorEq, gm_pe, gm_pn, gc_put, gl_put, gs_put, cd_X4_appeals, hM.f, iI_rt]
  refine ⟨fun q2 => ⟨by omega, by omega, ?_⟩, fun q2 => no (fun z => q2 z.2)⟩
  change MR (gput (gput G' (o + 1) (223 + 13 * c + 5).toNat (.int (iI 1))) (o + 1) 4 _) o _ _ at h5
  have e4' : uN (M 0) (223 + 13 * c + 5) 1 4 = M 0 4 := by unfold uN; rw [if_neg (by omega)]
  have e6' : actN (uN (M 0) (223 + 13 * c + 5) 1) 6 = M 0 6 := by unfold actN uN; rw [if_neg (by decide), if_neg (by omega)]
  have eN : uN (uN (M 0) (223 + 13 * c + 5) 1) 4 (M 0 4 + 1) = actN (uN (M 0) (223 + 13 * c + 5) 1) := by unfold actN; rw [e4']
  have eC : appC (actN (uN (M 0) (223 + 13 * c + 5) 1)) = appC (uN (M 0) (223 + 13 * c + 5) 1) := by
    unfold appC
    rw [e6', show uN (M 0) (223 + 13 * c + 5) 1 6 = M 0 6 from by unfold uN; rw [if_neg (by omega)]]
    refine sumI_c2 _ (fun i hi => ?_)
    have : clA (actN (uN (M 0) (223 + 13 * c + 5) 1)) i 5 = clA (uN (M 0) (223 + 13 * c + 5) 1) i 5 := by
      unfold clA actN
      show uN _ 4 _ _ = _
      unfold uN
      rw [if_neg (by omega)]
    rw [this]
  have ee : ∀ f g, setF (setF M 0 f) 0 g = setF M 0 g := fun f g => by funext x; unfold setF; split <;> rfl
  rw [ee, eN] at h5
  have hk5 := ((MK.refl (G := G') (o := o)).put (a := o + 1) (j := (223 + 13 * c + 5).toNat) (v := .int (iI 1)) (by omega)).put (a := o + 1) (j := 4) (v := .int (iI (M 0 4 + 1))) (by omega)
  change MR (gput (gput G' (o + 1) (223 + 13 * c + 5).toNat (.int (iI 1))) (o + 1) 4 (.int (iI (M 0 4 + 1)))) o _ _ at h5
  generalize gput (gput G' (o + 1) (223 + 13 * c + 5).toNat (.int (iI 1))) (o + 1) 4 (.int (iI (M 0 4 + 1))) = G2 at h5 hk5 ⊢
  refine gCall.of (m_appealMany h5 (by rw [setF_s, e6']; exact h6)) (by decide) (by first | omega | decide) (by first | omega | decide) ?_
  rintro r G3 ⟨rfl, rfl⟩
  rw [setF_s, eC]
  refine exS rfl 4 _ _ _ _ _ _ ?_
  simp (disch := omega) only [exB, Nat.reduceAdd, Nat.reduceSub, Nat.reduceMul, Nat.reduceLeDiff, Nat.reduceLT, Nat.reduceEqDiff, Nat.reduceBEq, Int.reduceAdd, Int.reduceSub, Int.reduceMul, Int.reduceNeg, Int.reduceToNat, Int.reduceLE, Int.reduceLT, Int.reduceEq, Int.reduceGE, Int.reduceGT, ↓reduceIte, reduceCtorEq, gm_pe, gm_pn, gc_put, gl_put, gs_put, cd_X4_appeals]
  subst hQ
  unfold appZ appN
  rw [if_pos h, if_pos ⟨Classical.not_not.mp q, q2⟩, if_pos ⟨h, Classical.not_not.mp q, q2⟩]
  exact ⟨rfl, hk5, _, _, h5, by rw [setF_s], fun f a b c d => by rw [setF_n a], fun _ _ _ _ => rfl⟩
theorem m_digsFor {n : Int} (hM : MR G o M V) (hB : RowB K (M 0)) (hn : i32 n) : Tri X 6 Y_X4_digsFor [.ref o, .int (iI n)] 0 0 G (fun r G' => ∃ R, (isN (M 0) n → ¬ jnd (M 0) n → RouteR (M 0) n 1 R) ∧ APost G o M V (digZ (M 0) n R) (digN (M 0) n R) r G') := by
  have h5 := hB.2.1.1
  obtain ⟨G0, hG0⟩ : ∃ G0, G0 = G := ⟨G, rfl⟩
  refine Tri.of (by decide +kernel) (Nat.le_of_ble_eq_true rfl) ?_
  generalize hQ : (fun (r : Option Value) G' => ∃ R, (isN (M 0) n → ¬ jnd (M 0) n → RouteR (M 0) n 1 R) ∧ APost G o M V (digZ (M 0) n R) (digN (M 0) n R) r G') = Q
  have ne : ∀ R z, digE (M 0) n R = z → z ≠ 0 → digZ (M 0) n R = z ∧ digN (M 0) n R = M 0 := by
    intro R z h h0
    unfold digZ digN
    rw [if_neg (by omega), if_neg (by omega)]
    exact ⟨h, rfl⟩
  refine exS rfl 6 _ _ _ _ _ _ ?_
  simp (disch := omega) only [exB, Nat.reduceAdd, Nat.reduceSub, Nat.reduceMul, Nat.reduceLeDiff, Nat.reduceLT, Nat.reduceEqDiff, Nat.reduceBEq, Int.reduceAdd, Int.reduceSub, Int.reduceMul, Int.reduceNeg, Int.reduceToNat, Int.reduceLE, Int.reduceLT, Int.reduceEq, Int.reduceGE, Int.reduceGT, ↓reduceIte, reduceCtorEq, gm_pe, gm_pn, gc_put, gl_put, gs_put, cd_X4_digsFor, hM.f]
  refine gCall.of (m_isNet hM hn (by omega)) (by decide) (by first | omega | decide) (by first | omega | decide) ?_
  rintro r G' ⟨rfl, rfl⟩
  by_cases h : isN (M 0) n
  case neg =>
    rw [if_neg h]
    refine exS rfl 6 _ _ _ _ _ _ ?_
    simp (disch := omega) only [exB, Nat.reduceAdd, Nat.reduceSub, Nat.reduceMul, Nat.reduceLeDiff, Nat.reduceLT, Nat.reduceEqDiff, Nat.reduceBEq, Int.reduceAdd, Int.reduceSub, Int.reduceMul, Int.reduceNeg, Int.reduceToNat, Int.reduceLE, Int.reduceLT, Int.reduceEq, Int.reduceGE, Int.reduceGT, ↓reduceIte, reduceCtorEq, gm_pe, gm_pn, gc_put, gl_put, gs_put, cd_X4_digsFor, hM.f, iI_rt]
    subst hQ
    refine ⟨none, fun q => absurd q h, ?_⟩
    obtain ⟨e1, e2⟩ := ne none (-1000001) (by unfold digE; rw [if_neg h]) (by decide)
    rw [e1, e2]
    exact AP.same hM
  rw [if_pos h]
  have hn6 : 0 ≤ n ∧ n < 6 := by omega
  refine exS rfl 6 _ _ _ _ _ _ ?_
  simp (disch := omega) only [exB, Nat.reduceAdd, Nat.reduceSub, Nat.reduceMul, Nat.reduceLeDiff, Nat.reduceLT, Nat.reduceEqDiff, Nat.reduceBEq, Int.reduceAdd, Int.reduceSub, Int.reduceMul, Int.reduceNeg, Int.reduceToNat, Int.reduceLE, Int.reduceLT, Int.reduceEq, Int.reduceGE, Int.reduceGT, ↓reduceIte, reduceCtorEq, gm_pe, gm_pn, gc_put, gl_put, gs_put, cd_X4_digsFor, hM.f, iI_rt]
  refine gCall.of (m_isJoined hM hn6) (by decide) (by first | omega | decide) (by first | omega | decide) ?_
  rintro r G' ⟨rfl, rfl⟩
  by_cases hj : jnd (M 0) n
  · rw [if_pos hj]
    refine exS rfl 6 _ _ _ _ _ _ ?_
    simp (disch := omega) only [exB, Nat.reduceAdd, Nat.reduceSub, Nat.reduceMul, Nat.reduceLeDiff, Nat.reduceLT, Nat.reduceEqDiff, Nat.reduceBEq, Int.reduceAdd, Int.reduceSub, Int.reduceMul, Int.reduceNeg, Int.reduceToNat, Int.reduceLE, Int.reduceLT, Int.reduceEq, Int.reduceGE, Int.reduceGT, ↓reduceIte, reduceCtorEq, gm_pe, gm_pn, gc_put, gl_put, gs_put, cd_X4_digsFor, hM.f, iI_rt]
    subst hQ
    refine ⟨none, fun _ q => absurd hj q, ?_⟩
    obtain ⟨e1, e2⟩ := ne none (-1000002) (by unfold digE; rw [if_pos h, if_pos hj]) (by decide)
    rw [e1, e2]
    exact AP.same hM
  rw [if_neg hj]
  have nb := hB.2.2.2.2.2.1 n hn6.1 hn6.2
  have np := nb.2.2.2.2.1
  refine exS rfl 6 _ _ _ _ _ _ ?_
  simp (disch := omega) only [exB, Nat.reduceAdd, Nat.reduceSub, Nat.reduceMul, Nat.reduceLeDiff, Nat.reduceLT, Nat.reduceEqDiff, Nat.reduceBEq, Int.reduceAdd, Int.reduceSub, Int.reduceMul, Int.reduceNeg, Int.reduceToNat, Int.reduceLE, Int.reduceLT, Int.reduceEq, Int.reduceGE, Int.reduceGT, ↓reduceIte, reduceCtorEq, gm_pe, gm_pn, gc_put, gl_put, gs_put, cd_X4_digsFor, hM.f, iI_rt]
  refine gCall.of (m_routes hM hB.rc hn6 (dg := 1) (Or.inr rfl) (hB.pins hn6.1 hn6.2) nb.1.1 nb.2.1.1) (by decide) (by first | omega | decide) (by first | omega | decide) ?_
  rintro r G1 ⟨hk1, R, M1, V1, hRR, hR1, hf1, hv1, hm⟩
  match R, hRR, hm with
  | none, hRR, hr0 =>
    subst hr0
    refine exS rfl 6 _ _ _ _ _ _ ?_
    simp (disch := omega) only [exB, Nat.reduceAdd, Nat.reduceSub, Nat.reduceMul, Nat.reduceLeDiff, Nat.reduceLT, Nat.reduceEqDiff, Nat.reduceBEq, Int.reduceAdd, Int.reduceSub, Int.reduceMul, Int.reduceNeg, Int.reduceToNat, Int.reduceLE, Int.reduceLT, Int.reduceEq, Int.reduceGE, Int.reduceGT, ↓reduceIte, reduceCtorEq, gm_pe, gm_pn, gc_put, gl_put, gs_put, cd_X4_digsFor, hM.f, iI_rt]
    subst hQ
    refine ⟨none, fun _ _ => hRR, ?_⟩
    obtain ⟨e1, e2⟩ := ne none (-1000002) (by unfold digE; rw [if_pos h, if_neg hj]) (by decide)
    rw [e1, e2]
    exact ⟨rfl, hk1, M1, V1, hR1, hf1 0 (by decide) (by decide) (by decide), fun f a b c d => hf1 f b c d, hv1⟩
  | some (l, c), hRR, ⟨hr0, hl, hc, hg⟩ =>
    subst hr0
    have e0 : M1 0 = M 0 := hf1 0 (by decide) (by decide) (by decide)
    have hb := hRR.b nb.2.1 nb.2.2.1.2
    have hRt : RtOK M1 V1 l := ⟨hl, hb.1, hb.2.2, hg⟩
    have hst : ∀ m, 0 ≤ m → m < 6 → 0 ≤ M 0 (169 + 9 * m + 3) ∧ M 0 (169 + 9 * m + 3) ≤ 9 := fun m m0 m1 => (hB.2.2.2.2.2.1 m m0 m1).2.2.2.1
    have n1 := hB.2.2.1.2.1
    refine exS rfl 6 _ _ _ _ _ _ ?_
    simp (disch := omega) only [exB, Nat.reduceAdd, Nat.reduceSub, Nat.reduceMul, Nat.reduceLeDiff, Nat.reduceLT, Nat.reduceEqDiff, Nat.reduceBEq, Int.reduceAdd, Int.reduceSub, Int.reduceMul, Int.reduceNeg, Int.reduceToNat, Int.reduceLE, Int.reduceLT, Int.reduceEq, Int.reduceGE, Int.reduceGT, ↓reduceIte, reduceCtorEq, gm_pe, gm_pn, gc_put, gl_put, gs_put, cd_X4_digsFor, hR1.f, iI_rt]
    refine gCall.of (m_duesOf hR1 hRt (by rw [e0]; exact n1) (by rw [e0]; exact h5) (by rw [e0]; exact hst)) (by decide) (by first | omega | decide) (by first | omega | decide) ?_
    rintro r G' ⟨rfl, rfl⟩
    rw [e0]
    have hK := hB.1
    have bd : 0 ≤ duesN (M 0) l ∧ duesN (M 0) l ≤ 57348 := by
      have := sumI_bb (f := dueN (M 0) l) (b := 9558) (M 0 5).toNat (fun j hj => dueN_b n1 (hst j (by omega) (by omega)))
      unfold duesN
      omega
    refine exS rfl 6 _ _ _ _ _ _ ?_
    simp (disch := omega) only [exB, Nat.reduceAdd, Nat.reduceSub, Nat.reduceMul, Nat.reduceLeDiff, Nat.reduceLT, Nat.reduceEqDiff, Nat.reduceBEq, Int.reduceAdd, Int.reduceSub, Int.reduceMul, Int.reduceNeg, Int.reduceToNat, Int.reduceLE, Int.reduceLT, Int.reduceEq, Int.reduceGE, Int.reduceGT, ↓reduceIte, reduceCtorEq, gm_pe, gm_pn, gc_put, gl_put, gs_put, cd_X4_digsFor, hR1.f, iI_rt]
    refine gCall.of (m_of hR1 (n := n) (w := 4) (by omega)) (by decide) (by first | omega | decide) (by first | omega | decide) ?_
    rintro r G' ⟨rfl, rfl⟩
    rw [e0]
    by_cases hp : duesN (M 0) l > M 0 (169 + 9 * n + 4)
    · refine exS rfl 6 _ _ _ _ _ _ ?_
      simp (disch := omega) only [exB, Nat.reduceAdd, Nat.reduceSub, Nat.reduceMul, Nat.reduceLeDiff, Nat.reduceLT, Nat.reduceEqDiff, Nat.reduceBEq, Int.reduceAdd, Int.reduceSub, Int.reduceMul, Int.reduceNeg, Int.reduceToNat, Int.reduceLE, Int.reduceLT, Int.reduceEq, Int.reduceGE, Int.reduceGT, ↓reduceIte, reduceCtorEq, gm_pe, gm_pn, gc_put, gl_put, gs_put, cd_X4_digsFor, hR1.f, iI_rt]
      refine ⟨fun z => absurd hp (by omega), fun _ => ?_⟩
      subst hQ
      refine ⟨some (l, c), fun _ _ => hRR, ?_⟩
      obtain ⟨e1, e2⟩ := ne (some (l, c)) (-1000002) (by unfold digE; rw [if_pos h, if_neg hj]; dsimp only; rw [if_pos hp]) (by decide)
      rw [e1, e2]
      exact ⟨rfl, hk1, M1, V1, hR1, e0, fun f a b c d => hf1 f b c d, hv1⟩
    refine exS rfl 6 _ _ _ _ _ _ ?_
    simp (disch := omega) only [exB, Nat.reduceAdd, Nat.reduceSub, Nat.reduceMul, Nat.reduceLeDiff, Nat.reduceLT, Nat.reduceEqDiff, Nat.reduceBEq, Int.reduceAdd, Int.reduceSub, Int.reduceMul, Int.reduceNeg, Int.reduceToNat, Int.reduceLE, Int.reduceLT, Int.reduceEq, Int.reduceGE, Int.reduceGT, ↓reduceIte, reduceCtorEq, gm_pe, gm_pn, gc_put, gl_put, gs_put, cd_X4_digsFor, hR1.f, iI_rt]
    refine ⟨fun _ => ?_, fun z => absurd z (by omega)⟩
    refine gCall.of (m_victimsOf hR1 hRt (by rw [e0]; exact h5)) (by decide) (by first | omega | decide) (by first | omega | decide) ?_
    rintro r G' ⟨rfl, rfl⟩
    rw [e0]
    have h6 := hB.2.1.2
    have vb : 0 ≤ vicN (M 0) l ∧ vicN (M 0) l < 64 := by
      have := vicS_b (f := thr (M 0) l) (M 0 5).toNat
      have p6 : 2 ^ (M 0 5).toNat ≤ 2 ^ 6 := Nat.pow_le_pow_right (by decide) (by omega)
      have e2 : ((2 ^ (M 0 5).toNat : Nat) : Int) = 2 ^ (M 0 5).toNat := by rw [Int.natCast_pow]; rfl
      unfold vicN
      omega
    have pb := popc_b ⟨(vicN (M 0) l).toNat, by omega⟩
    dsimp only at pb
    refine exS rfl 8 _ _ _ _ _ _ ?_
    simp (disch := omega) only [exB, Nat.reduceAdd, Nat.reduceSub, Nat.reduceMul, Nat.reduceLeDiff, Nat.reduceLT, Nat.reduceEqDiff, Nat.reduceBEq, Int.reduceAdd, Int.reduceSub, Int.reduceMul, Int.reduceNeg, Int.reduceToNat, Int.reduceLE, Int.reduceLT, Int.reduceEq, Int.reduceGE, Int.reduceGT, ↓reduceIte, reduceCtorEq, gm_pe, gm_pn, gc_put, gl_put, gs_put, cd_X4_digsFor, hR1.f, iI_rt, e0]
    refine gCall.of (m_bits vb) (by decide) (by first | omega | decide) (by first | omega | decide) ?_
    rintro r G' ⟨rfl, rfl⟩
    by_cases hx : M 0 6 + popc (vicN (M 0) l).toNat > 12
    · refine exS rfl 6 _ _ _ _ _ _ ?_
      simp (disch := omega) only [exB, Nat.reduceAdd, Nat.reduceSub, Nat.reduceMul, Nat.reduceLeDiff, Nat.reduceLT, Nat.reduceEqDiff, Nat.reduceBEq, Int.reduceAdd, Int.reduceSub, Int.reduceMul, Int.reduceNeg, Int.reduceToNat, Int.reduceLE, Int.reduceLT, Int.reduceEq, Int.reduceGE, Int.reduceGT, ↓reduceIte, reduceCtorEq, gm_pe, gm_pn, gc_put, gl_put, gs_put, cd_X4_digsFor, hR1.f, iI_rt, e0]
      refine ⟨fun z => absurd hx (by omega), fun _ => ?_⟩
      subst hQ
      refine ⟨some (l, c), fun _ _ => hRR, ?_⟩
      obtain ⟨e1, e2⟩ := ne (some (l, c)) (-1000003) (by unfold digE; rw [if_pos h, if_neg hj]; dsimp only; rw [if_neg hp, if_pos hx]) (by decide)
      rw [e1, e2]
      exact ⟨rfl, hk1, M1, V1, hR1, e0, fun f a b c d => hf1 f b c d, hv1⟩
    refine exS rfl 6 _ _ _ _ _ _ ?_
    simp (disch := omega) only [exB, Nat.reduceAdd, Nat.reduceSub, Nat.reduceMul, Nat.reduceLeDiff, Nat.reduceLT, Nat.reduceEqDiff, Nat.reduceBEq, Int.reduceAdd, Int.reduceSub, Int.reduceMul, Int.reduceNeg, Int.reduceToNat, Int.reduceLE, Int.reduceLT, Int.reduceEq, Int.reduceGE, Int.reduceGT, ↓reduceIte, reduceCtorEq, gm_pe, gm_pn, gc_put, gl_put, gs_put, cd_X4_digsFor, hR1.f, iI_rt, e0]
    refine ⟨fun _ => ?_, fun z => absurd z (by omega)⟩
    refine gCall.of (m_duesOf hR1 hRt (by rw [e0]; exact n1) (by rw [e0]; exact h5) (by rw [e0]; exact hst)) (by decide) (by first | omega | decide) (by first | omega | decide) ?_
    rintro r G' ⟨rfl, rfl⟩
    rw [e0]
    have b4 := hB.2.2.2.1
    have h4 := hR1.putA 0 (z := 4) (v := M 0 4 + 1) (by decide) (by decide) (by omega)
    rw [uM_00, e0] at h4
    change MR (gput G' (o + 1) 4 (.int (iI (M 0 4 + 1)))) o (setF M1 0 (actN (M 0))) V1 at h4
    have hk4 := hk1.put (a := o + 1) (j := 4) (v := .int (iI (M 0 4 + 1))) (by omega)
    refine excS rfl 87 20 _ _ _ _ _ _ ?_
    simp (disch := omega) only [exB, Nat.reduceAdd, Nat.reduceSub, Nat.reduceMul, Nat.reduceLeDiff, Nat.reduceLT, Nat.reduceEqDiff, Nat.reduceBEq, Int.reduceAdd, Int.reduceSub, Int.reduceMul, Int.reduceNeg, Int.reduceToNat, Int.reduceLE, Int.reduceLT, Int.reduceEq, Int.reduceGE, Int.reduceGT, ↓reduceIte, reduceCtorEq, gm_pe, gm_pn, gc_put, gl_put, gs_put, cd_X4_digsFor, hR1.f, iI_rt, e0]
    subst hG0
    generalize gput G' (o + 1) 4 (.int (iI (M 0 4 + 1))) = G2 at h4 hk4 ⊢
    have aN : ∀ j, j ≠ 4 → actN (M 0) j = M 0 j := fun j hj => by unfold actN uN; rw [if_neg hj]
    have ee : ∀ f g, setF (setF M1 0 f) 0 g = setF M1 0 g := fun f g => by funext x; unfold setF; split <;> rfl
    have cnt := popc_v (f := thr (M 0) l) (M 0 5).toNat (by omega)
    refine up1 (σ := gH) (W := fun k G' => Wp X Y_X4_digsFor 6 Q 0 0 G' 87 [some (.ref o), some (.int (iI n)), some (.int (iI (vicN (M 0) l))), some (.int (iI (duesN (M 0) l))), some (.int (iI k)), none] []) (P := fun k G' => MR G' o (setF M1 0 (digL (M 0) l n k.toNat (actN (M 0)))) V1 ∧ MK G0 G' o) (hi := M 0 5) 0 ?_ ?_ 0 G2 (by decide) (by omega) ⟨h4, hk4⟩
    · rintro k G3 k0 k1 ⟨hR3, hk3⟩ ih
      obtain ⟨d6, dj⟩ := digL_f (N0 := M 0) (N := actN (M 0)) (l := l) (a := n) (by rw [aN 6 (by decide)]; omega) hn6 k.toNat (by omega)
      have eS : digL (M 0) l n (k + 1).toNat (actN (M 0)) = digS (M 0) l n k (digL (M 0) l n k.toNat (actN (M 0))) := by
        rw [show (k + 1).toNat = k.toNat + 1 from by omega]
        show digS (M 0) l n (k.toNat : Int) _ = _
        rw [show ((k.toNat : Nat) : Int) = k from by omega]
      rw [eS] at ih
      rw [aN 6 (by decide)] at d6
      have D5 : digL (M 0) l n k.toNat (actN (M 0)) 5 = M 0 5 := by rw [dj 5 (Or.inl (by decide)), aN 5 (by decide)]
      have D1 : digL (M 0) l n k.toNat (actN (M 0)) 1 = M 0 1 := by rw [dj 1 (Or.inl (by decide)), aN 1 (by decide)]
      have Ds : ∀ m, 0 ≤ m → m < 6 → digL (M 0) l n k.toNat (actN (M 0)) (169 + 9 * m + 3) = M 0 (169 + 9 * m + 3) := fun m m0 m1 => by rw [dj _ (Or.inr ⟨m, m0, m1, 3, by decide, by decide, rfl⟩), aN _ (by omega)]
      have hvb := vicS_bit (f := thr (M 0) l) (M 0 5).toNat k.toNat (by omega)
      rw [show ((k.toNat : Nat) : Int) = k from by omega] at hvb
      have hsb := sumI_b (f := fun i => if 0 < thr (M 0) l i then 1 else 0) (fun i => by split <;> decide) k.toNat
      generalize digL (M 0) l n k.toNat (actN (M 0)) = D at *
      have z0 : setF M1 0 D 0 = D := setF_s
      have hRt3 : RtOK (setF M1 0 D) V1 l := ⟨hl, hb.1, hb.2.2, by rw [setF_n (by decide)]; exact hg⟩
      have nx : ∀ G4, MR G4 o (setF M1 0 (digS (M 0) l n k D)) V1 → MK G0 G4 o → ∀ u, Wp X Y_X4_digsFor 6 Q 0 0 G4 149 [some (.ref o), some (.int (iI n)), some (.int (iI (vicN (M 0) l))), some (.int (iI (duesN (M 0) l))), some (.int (iI k)), u] [] := by
        intro G4 hR4 hk4 u
        refine excS rfl 87 4 _ _ _ _ _ _ ?_
        simp (disch := omega) only [exB, Nat.reduceAdd, Nat.reduceSub, Nat.reduceMul, Nat.reduceLeDiff, Nat.reduceLT, Nat.reduceEqDiff, Nat.reduceBEq, Int.reduceAdd, Int.reduceSub, Int.reduceMul, Int.reduceNeg, Int.reduceToNat, Int.reduceLE, Int.reduceLT, Int.reduceEq, Int.reduceGE, Int.reduceGT, ↓reduceIte, reduceCtorEq, gm_pe, gm_pn, gc_put, gl_put, gs_put, cd_X4_digsFor, iI_rt]
        exact (ih G4 ⟨hR4, hk4⟩).wk' _ (by simp [wkL])
      have sh : iI (vicN (M 0) l) >>> (iI k &&& 31) &&& iI 1 = iI (if 0 < thr (M 0) l k then 1 else 0) := by
        rw [iI_and31 (by omega), iI_shr (by omega) (by omega), iI_and1 (Int.ediv_nonneg vb.1 (Int.le_of_lt (Int.pow_pos (by decide))))]
        unfold vicN
        rw [hvb]
      refine excS rfl 149 24 _ _ _ _ _ _ ?_
      simp (disch := omega) only [exB, Nat.reduceAdd, Nat.reduceSub, Nat.reduceMul, Nat.reduceLeDiff, Nat.reduceLT, Nat.reduceEqDiff, Nat.reduceBEq, Int.reduceAdd, Int.reduceSub, Int.reduceMul, Int.reduceNeg, Int.reduceToNat, Int.reduceLE, Int.reduceLT, Int.reduceEq, Int.reduceGE, Int.reduceGT, ↓reduceIte, reduceCtorEq, gm_pe, gm_pn, gc_put, gl_put, gs_put, cd_X4_digsFor, hR3.f, iI_rt, z0, D5, sh]
      refine ⟨fun z => absurd z (by omega), fun _ => ⟨fun z => ?_, fun z => ?_⟩⟩
      · have hno : ¬ 0 < thr (M 0) l k := fun q => z (by rw [if_pos q])
        refine nx _ ?_ hk3 _
        unfold digS
        rw [if_neg hno]
        exact hR3
      · have hyes : 0 < thr (M 0) l k := Classical.byContradiction (fun q => z (by rw [if_neg q]; decide))
        have mono := sumI_mono (f := fun i => if 0 < thr (M 0) l i then 1 else 0) (fun i => by split <;> decide) (k.toNat + 1) (M 0 5).toNat (by omega)
        have last : sumI (fun i => if 0 < thr (M 0) l i then 1 else 0) (k.toNat + 1) = sumI (fun i => if 0 < thr (M 0) l i then 1 else 0) k.toNat + 1 := by
          show _ + (if 0 < thr (M 0) l (k.toNat : Int) then 1 else 0) = _
          rw [show ((k.toNat : Nat) : Int) = k from by omega, if_pos hyes]
        have D6 : 0 ≤ D 6 ∧ D 6 ≤ 11 := by unfold vicN at hx; omega
        have db := dueN_b (N := D) (l := l) (m := k) (by rw [D1]; exact n1) (by rw [Ds k k0 (by omega)]; exact hst k k0 (by omega))
        have eD : digS (M 0) l n k D = losN (adN (claN (paysN D n k (dueN D l k)) n k (dueN D l k)) k 6 1) k := by unfold digS; rw [if_pos hyes]
        rw [eD] at nx
        refine gCall.of (m_due hR3 hRt3 (m := k) (by omega)) (by decide) (by first | omega | decide) (by first | omega | decide) ?_
        rintro r G4 ⟨rfl, rfl⟩
        rw [z0]
        refine exS rfl 12 _ _ _ _ _ _ ?_
        simp (disch := omega) only [exB, Nat.reduceAdd, Nat.reduceSub, Nat.reduceMul, Nat.reduceLeDiff, Nat.reduceLT, Nat.reduceEqDiff, Nat.reduceBEq, Int.reduceAdd, Int.reduceSub, Int.reduceMul, Int.reduceNeg, Int.reduceToNat, Int.reduceLE, Int.reduceLT, Int.reduceEq, Int.reduceGE, Int.reduceGT, ↓reduceIte, reduceCtorEq, gm_pe, gm_pn, gc_put, gl_put, gs_put, cd_X4_digsFor, hR3.f, iI_rt]
        refine gCall.of (m_pays hR3 (a := n) (b := k) (c := dueN D l k) hn6 (by omega)) (by decide) (by first | omega | decide) (by first | omega | decide) ?_
        rintro r G5 ⟨rfl, hk5, hR5⟩
        rw [ee, z0] at hR5
        have h6 : paysN D n k (dueN D l k) 6 = D 6 := paysN_off (fun x hx => by omega)
        refine exS rfl 12 _ _ _ _ _ _ ?_
        simp (disch := omega) only [exB, Nat.reduceAdd, Nat.reduceSub, Nat.reduceMul, Nat.reduceLeDiff, Nat.reduceLT, Nat.reduceEqDiff, Nat.reduceBEq, Int.reduceAdd, Int.reduceSub, Int.reduceMul, Int.reduceNeg, Int.reduceToNat, Int.reduceLE, Int.reduceLT, Int.reduceEq, Int.reduceGE, Int.reduceGT, ↓reduceIte, reduceCtorEq, gm_pe, gm_pn, gc_put, gl_put, gs_put, cd_X4_digsFor, hR5.f, iI_rt]
        refine gCall.of (m_claims hR5 (a := n) (b := k) (p := dueN D l k) (by rw [setF_s, h6]; exact D6) hn6 (by omega) (by omega)) (by decide) (by first | omega | decide) (by first | omega | decide) ?_
        rintro r G6 ⟨rfl, hk6, hR6⟩
        rw [ee, setF_s] at hR6
        refine exS rfl 12 _ _ _ _ _ _ ?_
        simp (disch := omega) only [exB, Nat.reduceAdd, Nat.reduceSub, Nat.reduceMul, Nat.reduceLeDiff, Nat.reduceLT, Nat.reduceEqDiff, Nat.reduceBEq, Int.reduceAdd, Int.reduceSub, Int.reduceMul, Int.reduceNeg, Int.reduceToNat, Int.reduceLE, Int.reduceLT, Int.reduceEq, Int.reduceGE, Int.reduceGT, ↓reduceIte, reduceCtorEq, gm_pe, gm_pn, gc_put, gl_put, gs_put, cd_X4_digsFor, hR6.f, iI_rt]
        refine gCall.of (m_addsW hR6 (n := k) (w := 6) (b := 1) (by omega)) (by decide) (by first | omega | decide) (by first | omega | decide) ?_
        rintro r G7 ⟨rfl, hk7, hR7⟩
        rw [ee, setF_s] at hR7
        refine exS rfl 12 _ _ _ _ _ _ ?_
        simp (disch := omega) only [exB, Nat.reduceAdd, Nat.reduceSub, Nat.reduceMul, Nat.reduceLeDiff, Nat.reduceLT, Nat.reduceEqDiff, Nat.reduceBEq, Int.reduceAdd, Int.reduceSub, Int.reduceMul, Int.reduceNeg, Int.reduceToNat, Int.reduceLE, Int.reduceLT, Int.reduceEq, Int.reduceGE, Int.reduceGT, ↓reduceIte, reduceCtorEq, gm_pe, gm_pn, gc_put, gl_put, gs_put, cd_X4_digsFor, hR7.f, iI_rt]
        refine gCall.of (m_loses hR7 (m := k) (by omega)) (by decide) (by first | omega | decide) (by first | omega | decide) ?_
        rintro r G8 ⟨rfl, hk8, hR8⟩
        rw [ee, setF_s] at hR8
        exact nx G8 hR8 ((((hk3.trans hk5).trans hk6).trans hk7).trans hk8) _
    · rintro G3 ⟨hR3, hk3⟩
      obtain ⟨-, dj⟩ := digL_f (N0 := M 0) (N := actN (M 0)) (l := l) (a := n) (by rw [aN 6 (by decide)]; omega) hn6 (M 0 5).toNat (by omega)
      have D5 : digL (M 0) l n (M 0 5).toNat (actN (M 0)) 5 = M 0 5 := by rw [dj 5 (Or.inl (by decide)), aN 5 (by decide)]
      have eN : digN1 (M 0) n l = wirN (digL (M 0) l n (M 0 5).toNat (actN (M 0))) n l := rfl
      generalize digL (M 0) l n (M 0 5).toNat (actN (M 0)) = D at *
      have z0 : setF M1 0 D 0 = D := setF_s
      have hRt3 : RtOK (setF M1 0 D) V1 l := ⟨hl, hb.1, hb.2.2, by rw [setF_n (by decide)]; exact hg⟩
      refine excS rfl 149 24 _ _ _ _ _ _ ?_
      simp (disch := omega) only [exB, Nat.reduceAdd, Nat.reduceSub, Nat.reduceMul, Nat.reduceLeDiff, Nat.reduceLT, Nat.reduceEqDiff, Nat.reduceBEq, Int.reduceAdd, Int.reduceSub, Int.reduceMul, Int.reduceNeg, Int.reduceToNat, Int.reduceLE, Int.reduceLT, Int.reduceEq, Int.reduceGE, Int.reduceGT, ↓reduceIte, reduceCtorEq, gm_pe, gm_pn, gc_put, gl_put, gs_put, cd_X4_digsFor, hR3.f, iI_rt, z0, D5]
      refine ⟨fun _ => ?_, fun z => absurd (Int.le_refl _) z⟩
      refine gCall.of (m_wires hR3 hRt3 (m := n) hn6) (by decide) (by first | omega | decide) (by first | omega | decide) ?_
      rintro r G4 ⟨rfl, hk5, hR5⟩
      rw [ee, z0] at hR5
      refine exS rfl 4 _ _ _ _ _ _ ?_
      simp (disch := omega) only [exB, Nat.reduceAdd, Nat.reduceSub, Nat.reduceMul, Nat.reduceLeDiff, Nat.reduceLT, Nat.reduceEqDiff, Nat.reduceBEq, Int.reduceAdd, Int.reduceSub, Int.reduceMul, Int.reduceNeg, Int.reduceToNat, Int.reduceLE, Int.reduceLT, Int.reduceEq, Int.reduceGE, Int.reduceGT, ↓reduceIte, reduceCtorEq, gm_pe, gm_pn, gc_put, gl_put, gs_put, cd_X4_digsFor]
      subst hQ
      refine ⟨some (l, c), fun _ _ => hRR, ?_⟩
      have eE : digE (M 0) n (some (l, c)) = 0 := by unfold digE; rw [if_pos h, if_neg hj]; dsimp only; rw [if_neg hp, if_neg hx]
      unfold digZ digN
      rw [if_pos eE, if_pos eE]
      dsimp only
      refine ⟨rfl, hk3.trans hk5, _, _, hR5, by rw [setF_s, eN], fun f a b c d => ?_, hv1⟩
      rw [setF_n a]
      exact hf1 f b c d
end
