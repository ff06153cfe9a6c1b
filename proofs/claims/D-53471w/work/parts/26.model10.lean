/-! THE MODEL 10: a route -/
set_option maxRecDepth 100000
set_option maxHeartbeats 4000000
def J00 (N : Int → Int) (n : Int) : Int → Int := j2 (fun _ => 0) (N (169 + 9 * n + 0))
/-- what a search of a route finds -/
def RouteR (N : Int → Int) (n dg : Int) (r : Option (List Int × Int)) : Prop := ∃ g1 r1, PathR N n dg (J00 N n) (N (169 + 9 * n + 1)) g1 r1 ∧ match r1 with
  | none => r = none
  | some (l1, c1) => (N (169 + 9 * n + 2) < 0 ∧ r = some (l1, c1)) ∨ (0 ≤ N (169 + 9 * n + 2) ∧ ∃ g2 r2, PathR N n dg (joinP N n (J00 N n) l1) (N (169 + 9 * n + 2)) g2 r2 ∧ match r2 with
    | none => r = none
    | some (l2, c2) => r = some (l1 ++ l2, c1 + c2))
theorem MR.swapJ {G : gH} {o : Nat} {M : Nat → Int → Int} {V : Nat → Int} (h : MR G o M V) {J : Int → Int} (hJ : ∀ z, 0 ≤ z → z < 162 → J z = M 9 z) : MR G o (setF M 9 J) V := by
  obtain ⟨h1, hV, a1, a2, a3, a4, a5, a6, a7, a8, a9⟩ := h
  refine ⟨h1, hV, ?_, ?_, ?_, ?_, ?_, ?_, ⟨a7.1, a7.2.1, fun z z0 z1 => ?_⟩, ?_, ?_⟩
  · rw [setF_n (by decide)]; exact a1
  · rw [setF_n (by decide)]; exact a2
  · rw [setF_n (by decide)]; exact a3
  · rw [setF_n (by decide)]; exact a4
  · rw [setF_n (by decide)]; exact a5
  · rw [setF_n (by decide)]; exact a6
  · rw [setF_s, hJ z z0 z1]; exact a7.2.2 z z0 z1
  · rw [setF_n (by decide)]; exact a8
  · rw [setF_n (by decide)]; exact a9
theorem PathR.b {N : Int → Int} {n dg : Int} {J : Int → Int} {p : Int} {g : Int → Int} {l : List Int} {c : Int} (hp : 0 ≤ p ∧ p ≤ 80) (h : PathR N n dg J p g (some (l, c))) : l.length ≤ 162 ∧ 0 ≤ c ∧ c ≤ 12798 := by
  obtain ⟨h1, h2⟩ := h
  rcases h2 with ⟨-, h2⟩ | ⟨h2, l', -, h3, h4⟩
  · cases h2
  · obtain ⟨rfl, rfl⟩ : l = l' ∧ c = _ := by simpa using h4
    refine ⟨h3, ?_, h2⟩
    have := (h1.1.1 (if g (81 + p) < g p then 81 + p else p) (by unfold inC; split <;> omega)).1
    exact this
theorem wrL_app : ∀ (l l' : List Int) (r : Int → Int) (m : Int), wrL r m (l ++ l') = wrL (wrL r m l) (m + l.length) l'
  | [], l', r, m => by simp [wrL]
  | x :: t, l', r, m => by
    show wrL (uN r m x) (m + 1) (t ++ l') = wrL (wrL (uN r m x) (m + 1) t) _ l'
    rw [wrL_app t l', List.length_cons]
    congr 1
    omega
section
variable {X : gX} {G : gH} {o : Nat} {N : Int → Int} {L : List (Int → Int)} {T : List Int} {M : Nat → Int → Int} {V : Nat → Int}
theorem m_routes {n dg : Int} (hM : MR G o M V) (hr : RC (M 0)) (hn : 0 ≤ n ∧ n < 6) (hd : bit dg) (hP : ∀ k, 0 ≤ k → k < 3 → -1 ≤ M 0 (169 + 9 * n + k) ∧ M 0 (169 + 9 * n + k) ≤ 80) (hP0 : 0 ≤ M 0 (169 + 9 * n + 0)) (hP1 : 0 ≤ M 0 (169 + 9 * n + 1)) : Tri X 5 Y_X4_routes [.ref o, .int (iI n), .int (iI dg)] 0 0 G (fun r G' => MK G G' o ∧ ∃ R M' V', RouteR (M 0) n dg R ∧ MR G' o M' V' ∧ (∀ f, f ≠ 8 → f ≠ 9 → f ≠ 10 → M' f = M f) ∧ (∀ f, f ≠ 11 → f ≠ 12 → f ≠ 13 → V' f = V f) ∧ match R with
    | none => r = some (.int (iI 0))
    | some (l, c) => r = some (.int (iI 1)) ∧ V' 11 = l.length ∧ V' 12 = c ∧ ∀ (i : Nat) (x : Int), l[i]? = some x → M' 10 i = x) := by
  have q0 := hP 0 (by decide) (by decide)
  have q1 := hP 1 (by decide) (by decide)
  have q2 := hP 2 (by decide) (by decide)
  refine Tri.of (by decide +kernel) (Nat.le_of_ble_eq_true rfl) ?_
  generalize hQ : (fun (r : Option Value) G' => MK G G' o ∧ ∃ R M' V', RouteR (M 0) n dg R ∧ MR G' o M' V' ∧ (∀ f, f ≠ 8 → f ≠ 9 → f ≠ 10 → M' f = M f) ∧ (∀ f, f ≠ 11 → f ≠ 12 → f ≠ 13 → V' f = V f) ∧ match R with
    | none => r = some (.int (iI 0))
    | some (l, c) => r = some (.int (iI 1)) ∧ V' 11 = l.length ∧ V' 12 = c ∧ ∀ (i : Nat) (x : Int), l[i]? = some x → M' 10 i = x) = Q
  have hR1 := ((hM.putV (f := 13) (v := dg) (by decide) (by omega)).putV (f := 11) (v := 0) (by decide) (by decide)).putV (f := 12) (v := 0) (by decide) (by decide)
  have hk1 := (((MK.refl (G := G) (o := o)).put (a := o) (j := 13) (v := .int (iI dg)) (by omega)).put (a := o) (j := 11) (v := .int (iI 0)) (by omega)).put (a := o) (j := 12) (v := .int (iI 0)) (by omega)
  refine excS rfl 17 20 _ _ _ _ _ _ ?_
  simp (disch := omega) only [exB, Nat.reduceAdd, Nat.reduceSub, Nat.reduceMul, Nat.reduceLeDiff, Nat.reduceLT, Nat.reduceEqDiff, Nat.reduceBEq, Int.reduceAdd, Int.reduceSub, Int.reduceMul, Int.reduceNeg, Int.reduceToNat, Int.reduceLE, Int.reduceLT, Int.reduceEq, Int.reduceGE, Int.reduceGT, ↓reduceIte, reduceCtorEq, gm_pe, gm_pn, gc_put, gl_put, gs_put, cd_X4_routes, hM.f, iI_rt]
  generalize gput (gput (gput G o 13 (.int (iI dg))) o 11 (.int (iI 0))) o 12 (.int (iI 0)) = G1 at hR1 hk1 ⊢
  generalize hV1 : uV (uV (uV V 13 dg) 11 0) 12 0 = V1 at hR1
  have v11 : V1 11 = 0 := by rw [← hV1]; simp [uV]
  have v12 : V1 12 = 0 := by rw [← hV1]; simp [uV]
  have v13 : V1 13 = dg := by rw [← hV1]; simp [uV]
  have vo : ∀ f, f ≠ 11 → f ≠ 12 → f ≠ 13 → V1 f = V f := fun f a b c => by rw [← hV1]; simp [uV, a, b, c]
  refine ⟨by rcases hd with rfl | rfl <;> decide, by rcases hd with rfl | rfl <;> decide, ?_⟩
  refine up1 (σ := gH × (Int → Int)) (W := fun c s => Wp X Y_X4_routes 5 Q 0 0 s.1 17 [some (.ref o), some (.int (iI n)), some (.int (iI dg)), some (.int (iI c))] []) (P := fun c s => MR s.1 o (setF M 9 s.2) V1 ∧ MK G s.1 o ∧ ∀ c', 0 ≤ c' → c' < c → s.2 c' = 0) (hi := 162) 0 ?_ ?_ 0 (G1, M 9) (by decide) (by decide) ⟨by rw [setF_id]; exact hR1, hk1, fun c' a b => by omega⟩
  case refine_1 =>
    rintro c ⟨G', J⟩ hc0 hc1 ⟨hR, hk, hg⟩ ih
    dsimp only at hR hk hg ⊢
    refine excS rfl 17 20 _ _ _ _ _ _ ?_
    simp (disch := omega) only [exB, Nat.reduceAdd, Nat.reduceSub, Nat.reduceMul, Nat.reduceLeDiff, Nat.reduceLT, Nat.reduceEqDiff, Nat.reduceBEq, Int.reduceAdd, Int.reduceSub, Int.reduceMul, Int.reduceNeg, Int.reduceToNat, Int.reduceLE, Int.reduceLT, Int.reduceEq, Int.reduceGE, Int.reduceGT, ↓reduceIte, reduceCtorEq, gm_pe, gm_pn, gc_put, gl_put, gs_put, cd_X4_routes, hR.f, iI_rt]
    have h4 := hR.putA 9 (z := c) (v := 0) (by decide) hc0 (by decide)
    rw [uM_set] at h4
    refine ⟨fun q => absurd q (by omega), fun _ => ⟨by omega, by omega, ih (_, uN J c 0) ⟨h4, hk.put (a := o + 7) (by omega), fun c' a b => ?_⟩⟩⟩
    dsimp only
    unfold uN
    split
    · rfl
    · exact hg c' a (by omega)
  rintro ⟨G2, J⟩ ⟨hR2, hk2, hg⟩
  dsimp only at hR2 hk2 hg ⊢
  have hR2 := hR2.swapJ (J := fun _ => 0) (fun z z0 z1 => by rw [setF_s]; exact (hg z z0 z1).symm)
  have e : setF (setF M 9 J) 9 (fun _ => 0) = setF M 9 (fun _ => 0) := by funext f; unfold setF; split <;> rfl
  rw [e] at hR2
  have z0 : ∀ J, setF M 9 J 0 = M 0 := fun J => setF_n (by decide)
  refine exS rfl 8 _ _ _ _ _ _ ?_
  simp (disch := omega) only [exB, Nat.reduceAdd, Nat.reduceSub, Nat.reduceMul, Nat.reduceLeDiff, Nat.reduceLT, Nat.reduceEqDiff, Nat.reduceBEq, Int.reduceAdd, Int.reduceSub, Int.reduceMul, Int.reduceNeg, Int.reduceToNat, Int.reduceLE, Int.reduceLT, Int.reduceEq, Int.reduceGE, Int.reduceGT, ↓reduceIte, reduceCtorEq, gm_pe, gm_pn, gc_put, gl_put, gs_put, cd_X4_routes, hR2.f, iI_rt]
  refine gCall.of (m_joinsPin hR2 (n := n) (w := 0) hn (by decide) rfl (by rw [z0]; omega)) (by decide) (by first | omega | decide) (by first | omega | decide) ?_
  rintro r G3 ⟨rfl, hk3, hR3⟩
  have e : setF (setF M 9 (fun _ => 0)) 9 (j2 (setF M 9 (fun _ => 0) 9) (setF M 9 (fun _ => 0) 0 (169 + 9 * n + 0))) = setF M 9 (J00 (M 0) n) := by
    rw [z0, setF_s]
    funext f; unfold setF J00; split <;> rfl
  rw [e] at hR3
  have hk3 := hk2.trans hk3
  have bJ : bits (J00 (M 0) n) := bits_u (bits_u (fun c hc => Or.inl rfl) _) _
  have z9 : ∀ J, setF M 9 J 9 = J := fun J => setF_s
  refine exS rfl 8 _ _ _ _ _ _ ?_
  simp (disch := omega) only [exB, Nat.reduceAdd, Nat.reduceSub, Nat.reduceMul, Nat.reduceLeDiff, Nat.reduceLT, Nat.reduceEqDiff, Nat.reduceBEq, Int.reduceAdd, Int.reduceSub, Int.reduceMul, Int.reduceNeg, Int.reduceToNat, Int.reduceLE, Int.reduceLT, Int.reduceEq, Int.reduceGE, Int.reduceGT, ↓reduceIte, reduceCtorEq, gm_pe, gm_pn, gc_put, gl_put, gs_put, cd_X4_routes, hR3.f, iI_rt]
  refine gCall.of (m_paths hR3 (n := n) (w := 1) (p := M 0 (169 + 9 * n + 1)) (by rw [z0]; exact hr) hn (by decide) (by rw [z0]) (by omega) (by rw [z9]; exact bJ) (by rw [v13]; exact hd) (by omega) (by omega) (by rw [z0]; exact hP)) (by decide) (by first | omega | decide) (by first | omega | decide) ?_
  rintro r G4 ⟨hk4, g1, R1, hPR, hm⟩
  have hk4 := hk3.trans hk4
  rw [z0, z9, v13] at hPR
  match R1, hPR, hm with
  | none, hPR, ⟨hr1, hR4⟩ =>
    subst hr1
    refine exS rfl 8 _ _ _ _ _ _ ?_
    simp (disch := omega) only [exB, Nat.reduceAdd, Nat.reduceSub, Nat.reduceMul, Nat.reduceLeDiff, Nat.reduceLT, Nat.reduceEqDiff, Nat.reduceBEq, Int.reduceAdd, Int.reduceSub, Int.reduceMul, Int.reduceNeg, Int.reduceToNat, Int.reduceLE, Int.reduceLT, Int.reduceEq, Int.reduceGE, Int.reduceGT, ↓reduceIte, reduceCtorEq, gm_pe, gm_pn, gc_put, gl_put, gs_put, cd_X4_routes, hR4.f, iI_rt]
    subst hQ
    refine ⟨hk4, none, _, _, ⟨g1, none, hPR, rfl⟩, hR4, fun f f8 f9 f10 => ?_, vo, rfl⟩
    rw [setF_n f8, setF_n f9]
  | some (l1, c1), hPR, ⟨hr1, hR4⟩ =>
    subst hr1
    rw [z0, z9, v11, v12, Int.zero_add, Int.zero_add] at hR4
    have b1 := hPR.b (by omega)
    have mA : setF (setF M 9 (J00 (M 0) n)) 8 g1 10 = M 10 := by rw [setF_n (by decide), setF_n (by decide)]
    have mB : setF M 9 (J00 (M 0) n) 10 = M 10 := by rw [setF_n (by decide)]
    rw [mB] at hR4
    generalize hM4 : setF (setF (setF (setF M 9 (J00 (M 0) n)) 8 g1) 10 (wrL (M 10) 0 l1)) 9 (joinP (M 0) n (J00 (M 0) n) l1) = M4 at hR4
    generalize hV4 : uV (uV V1 12 c1) 11 (l1.length : Int) = V4 at hR4
    have y0 : M4 0 = M 0 := by rw [← hM4]; simp only [setF_n (f' := 0) (f := 9) (by decide), setF_n (f' := 0) (f := 10) (by decide), setF_n (f' := 0) (f := 8) (by decide)]
    have y9 : M4 9 = joinP (M 0) n (J00 (M 0) n) l1 := by rw [← hM4, setF_s]
    have y10 : M4 10 = wrL (M 10) 0 l1 := by rw [← hM4, setF_n (by decide), setF_s]
    have yo : ∀ f, f ≠ 8 → f ≠ 9 → f ≠ 10 → M4 f = M f := fun f a b c => by rw [← hM4, setF_n b, setF_n c, setF_n a, setF_n b]
    have w11 : V4 11 = l1.length := by rw [← hV4]; exact uV_s
    have w12 : V4 12 = c1 := by rw [← hV4, uV_n (by decide), uV_s]
    have w13 : V4 13 = dg := by rw [← hV4, uV_n (by decide), uV_n (by decide), v13]
    have wo : ∀ f, f ≠ 11 → f ≠ 12 → f ≠ 13 → V4 f = V f := fun f a b c => by rw [← hV4, uV_n a, uV_n b, vo f a b c]
    refine exS rfl 8 _ _ _ _ _ _ ?_
    simp (disch := omega) only [exB, Nat.reduceAdd, Nat.reduceSub, Nat.reduceMul, Nat.reduceLeDiff, Nat.reduceLT, Nat.reduceEqDiff, Nat.reduceBEq, Int.reduceAdd, Int.reduceSub, Int.reduceMul, Int.reduceNeg, Int.reduceToNat, Int.reduceLE, Int.reduceLT, Int.reduceEq, Int.reduceGE, Int.reduceGT, ↓reduceIte, reduceCtorEq, gm_pe, gm_pn, gc_put, gl_put, gs_put, cd_X4_routes, hR4.f, iI_rt]
    refine gCall.of (m_of hR4 (n := n) (w := 2) (by omega)) (by decide) (by first | omega | decide) (by first | omega | decide) ?_
    rintro r G' ⟨rfl, rfl⟩
    rw [y0]
    refine exS rfl 8 _ _ _ _ _ _ ?_
    simp (disch := omega) only [exB, Nat.reduceAdd, Nat.reduceSub, Nat.reduceMul, Nat.reduceLeDiff, Nat.reduceLT, Nat.reduceEqDiff, Nat.reduceBEq, Int.reduceAdd, Int.reduceSub, Int.reduceMul, Int.reduceNeg, Int.reduceToNat, Int.reduceLE, Int.reduceLT, Int.reduceEq, Int.reduceGE, Int.reduceGT, ↓reduceIte, reduceCtorEq, gm_pe, gm_pn, gc_put, gl_put, gs_put, cd_X4_routes, hR4.f, iI_rt]
    refine ⟨fun h2 => ?_, fun h2 => ?_⟩
    · subst hQ
      refine ⟨hk4, some (l1, c1), _, _, ⟨g1, some (l1, c1), hPR, Or.inl ⟨h2, rfl⟩⟩, hR4, yo, wo, rfl, w11, w12, fun i x hx => ?_⟩
      rw [y10]
      have := wrL_get l1 (M 10) 0 i x hx
      rw [Int.zero_add] at this
      exact this
    refine gCall.of (m_paths hR4 (n := n) (w := 2) (p := M 0 (169 + 9 * n + 2)) (by rw [y0]; exact hr) hn (by decide) (by rw [y0]) (by omega) (by rw [y9]; exact bits_join bJ) (by rw [w13]; exact hd) (by omega) (by omega) (by rw [y0]; exact hP)) (by decide) (by first | omega | decide) (by first | omega | decide) ?_
    rintro r G5 ⟨hk5, g2, R2, hPR2, hm2⟩
    have hk5 := hk4.trans hk5
    rw [y0, y9, w13] at hPR2
    match R2, hPR2, hm2 with
    | none, hPR2, ⟨hr2, hR5⟩ =>
      subst hr2
      refine exS rfl 8 _ _ _ _ _ _ ?_
      simp (disch := omega) only [exB, Nat.reduceAdd, Nat.reduceSub, Nat.reduceMul, Nat.reduceLeDiff, Nat.reduceLT, Nat.reduceEqDiff, Nat.reduceBEq, Int.reduceAdd, Int.reduceSub, Int.reduceMul, Int.reduceNeg, Int.reduceToNat, Int.reduceLE, Int.reduceLT, Int.reduceEq, Int.reduceGE, Int.reduceGT, ↓reduceIte, reduceCtorEq, gm_pe, gm_pn, gc_put, gl_put, gs_put, cd_X4_routes, hR5.f, iI_rt]
      subst hQ
      refine ⟨hk5, none, _, _, ⟨g1, some (l1, c1), hPR, Or.inr ⟨by omega, g2, none, hPR2, rfl⟩⟩, hR5, fun f f8 f9 f10 => ?_, wo, rfl⟩
      rw [setF_n f8, yo f f8 f9 f10]
    | some (l2, c2), hPR2, ⟨hr2, hR5⟩ =>
      subst hr2
      refine exS rfl 8 _ _ _ _ _ _ ?_
      simp (disch := omega) only [exB, Nat.reduceAdd, Nat.reduceSub, Nat.reduceMul, Nat.reduceLeDiff, Nat.reduceLT, Nat.reduceEqDiff, Nat.reduceBEq, Int.reduceAdd, Int.reduceSub, Int.reduceMul, Int.reduceNeg, Int.reduceToNat, Int.reduceLE, Int.reduceLT, Int.reduceEq, Int.reduceGE, Int.reduceGT, ↓reduceIte, reduceCtorEq, gm_pe, gm_pn, gc_put, gl_put, gs_put, cd_X4_routes, hR5.f, iI_rt]
      subst hQ
      refine ⟨hk5, some (l1 ++ l2, c1 + c2), _, _, ⟨g1, some (l1, c1), hPR, Or.inr ⟨by omega, g2, some (l2, c2), hPR2, rfl⟩⟩, hR5, fun f f8 f9 f10 => ?_, fun f a b c => ?_, rfl, ?_, ?_, fun i x hx => ?_⟩
      · rw [setF_n f9, setF_n f10, setF_n f8, yo f f8 f9 f10]
      · rw [uV_n a, uV_n b, wo f a b c]
      · rw [uV_s, w11, List.length_append]; omega
      · rw [uV_n (by decide), uV_s, w12]
      · rw [setF_n (by decide), setF_s, y10, w11]
        have e := wrL_app l1 l2 (M 10) 0
        rw [Int.zero_add] at e
        rw [← e]
        have := wrL_get (l1 ++ l2) (M 10) 0 i x hx
        rw [Int.zero_add] at this
        exact this
end
