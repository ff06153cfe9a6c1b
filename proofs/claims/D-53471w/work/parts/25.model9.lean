/-! THE MODEL 9: a path; a route -/
set_option maxRecDepth 100000
set_option maxHeartbeats 4000000
/-- what a search of a path leaves: the distances, whether there is a path, the path -/
def PathR (N : Int → Int) (n dg : Int) (J : Int → Int) (p : Int) (g : Int → Int) (r : Option (List Int × Int)) : Prop := FarM N n dg J g ∧ (let a := if g (81 + p) < g p then 81 + p else p; (g a = 1000000000 ∧ r = none) ∨ (g a ≤ 12798 ∧ ∃ l : List Int, IsPath N n dg J 1000000000 g a l ∧ l.length ≤ 162 ∧ r = some (l, g a)))
section
variable {X : gX} {G : gH} {o : Nat} {N : Int → Int} {L : List (Int → Int)} {T : List Int} {M : Nat → Int → Int} {V : Nat → Int}
theorem m_paths {n w p : Int} (hM : MR G o M V) (hr : RC (M 0)) (hn : 0 ≤ n ∧ n < 6) (hw : 0 ≤ w ∧ w < 3) (he : M 0 (169 + 9 * n + w) = p) (hp : 0 ≤ p ∧ p ≤ 80) (hJ : bits (M 9)) (hd : bit (V 13)) (hv1 : 0 ≤ V 11 ∧ V 11 ≤ 162) (hv2 : 0 ≤ V 12 ∧ V 12 ≤ 100000) (hP : ∀ k, 0 ≤ k → k < 3 → -1 ≤ M 0 (169 + 9 * n + k) ∧ M 0 (169 + 9 * n + k) ≤ 80) : Tri X 4 Y_X4_paths [.ref o, .int (iI n), .int (iI w)] 0 0 G (fun r G' => MK G G' o ∧ ∃ g R, PathR (M 0) n (V 13) (M 9) p g R ∧ match R with
    | none => r = some (.int (iI 0)) ∧ MR G' o (setF M 8 g) V
    | some (l, c) => r = some (.int (iI 1)) ∧ MR G' o (setF (setF (setF M 8 g) 10 (wrL (M 10) (V 11) l)) 9 (joinP (M 0) n (M 9) l)) (uV (uV V 12 (V 12 + c)) 11 (V 11 + l.length))) := by
  refine Tri.of (by decide +kernel) (Nat.le_of_ble_eq_true rfl) ?_
  generalize hQ : (fun (r : Option Value) G' => MK G G' o ∧ ∃ g R, PathR (M 0) n (V 13) (M 9) p g R ∧ match R with
    | none => r = some (.int (iI 0)) ∧ MR G' o (setF M 8 g) V
    | some (l, c) => r = some (.int (iI 1)) ∧ MR G' o (setF (setF (setF M 8 g) 10 (wrL (M 10) (V 11) l)) 9 (joinP (M 0) n (M 9) l)) (uV (uV V 12 (V 12 + c)) 11 (V 11 + l.length))) = Q
  refine exS rfl 6 _ _ _ _ _ _ ?_
  simp (disch := omega) only [exB, Nat.reduceAdd, Nat.reduceSub, Nat.reduceMul, Nat.reduceLeDiff, Nat.reduceLT, Nat.reduceEqDiff, Nat.reduceBEq, Int.reduceAdd, Int.reduceSub, Int.reduceMul, Int.reduceNeg, Int.reduceToNat, Int.reduceLE, Int.reduceLT, Int.reduceEq, Int.reduceGE, Int.reduceGT, ↓reduceIte, reduceCtorEq, gm_pe, gm_pn, gc_put, gl_put, gs_put, cd_X4_paths, hM.f, iI_rt]
  refine gCall.of (m_measures hM hr hn hJ hd) (by decide) (by first | omega | decide) (by first | omega | decide) ?_
  rintro r G1 ⟨rfl, hk1, g, hR1, hF⟩
  have s0 : setF M 8 g 0 = M 0 := setF_n (by decide)
  have s9 : setF M 8 g 9 = M 9 := setF_n (by decide)
  have sA : setF M 8 g 10 = M 10 := setF_n (by decide)
  have s8 : setF M 8 g 8 = g := setF_s
  refine exS rfl 6 _ _ _ _ _ _ ?_
  simp (disch := omega) only [exB, Nat.reduceAdd, Nat.reduceSub, Nat.reduceMul, Nat.reduceLeDiff, Nat.reduceLT, Nat.reduceEqDiff, Nat.reduceBEq, Int.reduceAdd, Int.reduceSub, Int.reduceMul, Int.reduceNeg, Int.reduceToNat, Int.reduceLE, Int.reduceLT, Int.reduceEq, Int.reduceGE, Int.reduceGT, ↓reduceIte, reduceCtorEq, gm_pe, gm_pn, gc_put, gl_put, gs_put, cd_X4_paths, hR1.f, iI_rt]
  refine gCall.of (m_of hR1 (n := n) (w := w) (by omega)) (by decide) (by first | omega | decide) (by first | omega | decide) ?_
  rintro r G' ⟨rfl, rfl⟩
  rw [s0, he]
  have b1 := hF.1.1 p (by unfold inC; omega)
  have b2 := hF.1.1 (81 + p) (by unfold inC; omega)
  -- from 40 on: the begin is known
  have key : ∀ a, a = (if g (81 + p) < g p then 81 + p else p) → Wp X Y_X4_paths 4 Q 0 0 G' 40 [some (.ref o), some (.int (iI n)), some (.int (iI w)), some (.int (iI p)), some (.int (iI a)), none, none, none] [] := by
    intro a ha
    have hia : inC a := by rw [ha]; unfold inC; split <;> omega
    have b3 := hF.1.1 a hia
    obtain ⟨a0, a1⟩ := hia
    refine exS rfl 12 _ _ _ _ _ _ ?_
    simp (disch := omega) only [exB, Nat.reduceAdd, Nat.reduceSub, Nat.reduceMul, Nat.reduceLeDiff, Nat.reduceLT, Nat.reduceEqDiff, Nat.reduceBEq, Int.reduceAdd, Int.reduceSub, Int.reduceMul, Int.reduceNeg, Int.reduceToNat, Int.reduceLE, Int.reduceLT, Int.reduceEq, Int.reduceGE, Int.reduceGT, ↓reduceIte, reduceCtorEq, gm_pe, gm_pn, gc_put, gl_put, gs_put, cd_X4_paths, hR1.f, iI_rt, s8]
    refine ⟨a0, by omega, fun hl => ?_, fun hl => ?_⟩
    case refine_2 =>
      subst hQ
      refine ⟨hk1, g, none, ⟨hF, ?_⟩, rfl, hR1⟩
      dsimp only
      rw [← ha]
      exact Or.inl ⟨Classical.not_not.mp hl, rfl⟩
    have hfb := far_b (F := 1000000000) hr (fun c hc => (hF.1.1 c hc).1) hF.1.2.1 (fun c hc _ => hF.s hc) _ a rfl ⟨a0, a1⟩ (hF.s ⟨a0, a1⟩) (by omega)
    obtain ⟨q1, l, q2, q3⟩ := hfb
    have lb := lessC_b (g := g) (a := a) ⟨a0, a1⟩
    have hPR : PathR (M 0) n (V 13) (M 9) p g (some (l, g a)) := by
      refine ⟨hF, ?_⟩
      dsimp only
      rw [← ha]
      exact Or.inr ⟨by omega, l, q2, by omega, rfl⟩
    have hfin : ∀ G3, MK G G3 o → MR G3 o (setF (setF (setF M 8 g) 10 (wrL (M 10) (V 11) l)) 9 (joinP (M 0) n (M 9) l)) (uV (uV V 12 (V 12 + g a)) 11 (V 11 + l.length)) → Q (some (.int (iI 1))) G3 := by
      intro G3 hk3 hR3
      subst hQ
      exact ⟨hk3, g, _, hPR, rfl, hR3⟩
    generalize hM1 : setF M 8 g = M1 at *
    have hR2 := hR1.putV (f := 12) (v := V 12 + g a) (by decide) (by omega)
    have hk2 := hk1.put (a := o) (j := 12) (v := .int (iI (V 12 + g a))) (by omega)
    refine excS rfl 76 30 _ _ _ _ _ _ ?_
    simp (disch := omega) only [exB, Nat.reduceAdd, Nat.reduceSub, Nat.reduceMul, Nat.reduceLeDiff, Nat.reduceLT, Nat.reduceEqDiff, Nat.reduceBEq, Int.reduceAdd, Int.reduceSub, Int.reduceMul, Int.reduceNeg, Int.reduceToNat, Int.reduceLE, Int.reduceLT, Int.reduceEq, Int.reduceGE, Int.reduceGT, ↓reduceIte, reduceCtorEq, gm_pe, gm_pn, gc_put, gl_put, gs_put, cd_X4_paths, hR1.f, iI_rt, s8]
    generalize gput G' o 12 (.int (iI (V 12 + g a))) = G2 at hR2 hk2 ⊢
    generalize hV1 : uV V 12 (V 12 + g a) = V1 at hR2 hfin
    have v11 : V1 11 = V 11 := by rw [← hV1]; exact uV_n (by decide)
    have v13 : V1 13 = V 13 := by rw [← hV1]; exact uV_n (by decide)
    -- the pins
    have pin : ∀ (k q : Int) (G3 : gH) (J : Int → Int) (V' : Nat → Int) (M2 : Nat → Int → Int), M2 0 = M 0 → 0 ≤ k → k < 3 → M 0 (169 + 9 * n + k) = q → bits J → MR G3 o (setF M2 9 J) V' → MK G G3 o → (∀ G4, MR G4 o (setF M2 9 (spj J q)) V' → MK G G4 o → ∀ u, Wp X Y_X4_paths 4 Q 0 0 G4 175 [some (.ref o), some (.int (iI n)), some (.int (iI w)), some (.int (iI p)), u, some (.int (iI (V 11))), some (.int (iI (k + 1))), none] []) → ∀ u, Wp X Y_X4_paths 4 Q 0 0 G3 175 [some (.ref o), some (.int (iI n)), some (.int (iI w)), some (.int (iI p)), u, some (.int (iI (V 11))), some (.int (iI k)), none] [] := by
      intro k q G3 J V' M2 e2 k0 k1 hq hbJ hR3 hk3 next u
      have z9 : setF M2 9 J 9 = J := setF_s
      have z0 : setF M2 9 J 0 = M 0 := by rw [setF_n (by decide), e2]
      have hqb := hP k k0 k1
      rw [hq] at hqb
      have nx : ∀ G4, MR G4 o (setF M2 9 (spj J q)) V' → MK G G4 o → ∀ u v, Wp X Y_X4_paths 4 Q 0 0 G4 225 [some (.ref o), some (.int (iI n)), some (.int (iI w)), some (.int (iI p)), u, some (.int (iI (V 11))), some (.int (iI k)), v] [] := by
        intro G4 hR4 hk4 u v
        refine excS rfl 175 4 _ _ _ _ _ _ ?_
        simp (disch := omega) only [exB, Nat.reduceAdd, Nat.reduceSub, Nat.reduceMul, Nat.reduceLeDiff, Nat.reduceLT, Nat.reduceEqDiff, Nat.reduceBEq, Int.reduceAdd, Int.reduceSub, Int.reduceMul, Int.reduceNeg, Int.reduceToNat, Int.reduceLE, Int.reduceLT, Int.reduceEq, Int.reduceGE, Int.reduceGT, ↓reduceIte, reduceCtorEq, gm_pe, gm_pn, gc_put, gl_put, gs_put, cd_X4_paths, iI_rt]
        exact (next G4 hR4 hk4 u).wk' _ (by simp [wkL])
      refine excS rfl 225 10 _ _ _ _ _ _ ?_
      simp (disch := omega) only [exB, Nat.reduceAdd, Nat.reduceSub, Nat.reduceMul, Nat.reduceLeDiff, Nat.reduceLT, Nat.reduceEqDiff, Nat.reduceBEq, Int.reduceAdd, Int.reduceSub, Int.reduceMul, Int.reduceNeg, Int.reduceToNat, Int.reduceLE, Int.reduceLT, Int.reduceEq, Int.reduceGE, Int.reduceGT, ↓reduceIte, reduceCtorEq, gm_pe, gm_pn, gc_put, gl_put, gs_put, cd_X4_paths, hR3.f, iI_rt]
      refine ⟨fun h => absurd h (by omega), fun _ => ?_⟩
      refine gCall.of (m_of hR3 (n := n) (w := k) (by omega)) (by decide) (by first | omega | decide) (by first | omega | decide) ?_
      rintro r G' ⟨rfl, rfl⟩
      rw [z0, hq]
      have no : ¬ (0 ≤ q ∧ (J q = 1 ∨ J (81 + q) = 1)) → spj J q = J := fun h => by unfold spj; rw [if_neg h]
      by_cases hq0 : q < 0
      · refine excS rfl 225 4 _ _ _ _ _ _ ?_
        simp (disch := omega) only [exB, Nat.reduceAdd, Nat.reduceSub, Nat.reduceMul, Nat.reduceLeDiff, Nat.reduceLT, Nat.reduceEqDiff, Nat.reduceBEq, Int.reduceAdd, Int.reduceSub, Int.reduceMul, Int.reduceNeg, Int.reduceToNat, Int.reduceLE, Int.reduceLT, Int.reduceEq, Int.reduceGE, Int.reduceGT, ↓reduceIte, reduceCtorEq, gm_pe, gm_pn, gc_put, gl_put, gs_put, cd_X4_paths, hR3.f, iI_rt]
        exact ⟨fun _ => nx _ (by rw [no (fun z => by omega)]; exact hR3) hk3 _ _, fun z => absurd hq0 z⟩
      have c1 := hbJ q (by unfold inC; omega)
      have c2 := hbJ (81 + q) (by unfold inC; omega)
      have join : 0 ≤ q ∧ (J q = 1 ∨ J (81 + q) = 1) → Wp X Y_X4_paths 4 Q 0 0 G' 218 [some (.ref o), some (.int (iI n)), some (.int (iI w)), some (.int (iI p)), u, some (.int (iI (V 11))), some (.int (iI k)), some (.int (iI q))] [] := by
        intro h
        refine exS rfl 4 _ _ _ _ _ _ ?_
        simp (disch := omega) only [exB, Nat.reduceAdd, Nat.reduceSub, Nat.reduceMul, Nat.reduceLeDiff, Nat.reduceLT, Nat.reduceEqDiff, Nat.reduceBEq, Int.reduceAdd, Int.reduceSub, Int.reduceMul, Int.reduceNeg, Int.reduceToNat, Int.reduceLE, Int.reduceLT, Int.reduceEq, Int.reduceGE, Int.reduceGT, ↓reduceIte, reduceCtorEq, gm_pe, gm_pn, gc_put, gl_put, gs_put, cd_X4_paths, hR3.f, iI_rt]
        refine gCall.of (m_joinsPin hR3 (n := n) (w := k) (q := q) hn ⟨k0, k1⟩ (by rw [z0, hq]) (by omega)) (by decide) (by first | omega | decide) (by first | omega | decide) ?_
        rintro r G4 ⟨rfl, hk4, hR4⟩
        rw [z9] at hR4
        have e : setF (setF M2 9 J) 9 (j2 J q) = setF M2 9 (spj J q) := by
          unfold spj; rw [if_pos h]
          funext f; unfold setF; split <;> rfl
        rw [e] at hR4
        exact nx _ hR4 (hk3.trans hk4) _ _
      refine excS rfl 218 14 _ _ _ _ _ _ ?_
      simp (disch := omega) only [exB, Nat.reduceAdd, Nat.reduceSub, Nat.reduceMul, Nat.reduceLeDiff, Nat.reduceLT, Nat.reduceEqDiff, Nat.reduceBEq, Int.reduceAdd, Int.reduceSub, Int.reduceMul, Int.reduceNeg, Int.reduceToNat, Int.reduceLE, Int.reduceLT, Int.reduceEq, Int.reduceGE, Int.reduceGT, ↓reduceIte, reduceCtorEq, gm_pe, gm_pn, gc_put, gl_put, gs_put, cd_X4_paths, hR3.f, iI_rt, z9]
      exact ⟨fun z => absurd z hq0, fun _ => ⟨by omega, by omega, fun z => join ⟨by omega, Or.inl (c1.resolve_left z)⟩, fun z => ⟨by omega, by omega, fun z2 => nx _ (by rw [no (fun z3 => by omega)]; exact hR3) hk3 _ _, fun z2 => join ⟨by omega, Or.inr (c2.resolve_left z2)⟩⟩⟩⟩
    -- all pins
    have pins : ∀ (G3 : gH) (J : Int → Int) (V' : Nat → Int) (M2 : Nat → Int → Int), M2 0 = M 0 → bits J → MR G3 o (setF M2 9 J) V' → MK G G3 o → (∀ G4, MR G4 o (setF M2 9 (spj (spj (spj J (M 0 (169 + 9 * n + 0))) (M 0 (169 + 9 * n + 1))) (M 0 (169 + 9 * n + 2)))) V' → MK G G4 o → Q (some (.int (iI 1))) G4) → ∀ u, Wp X Y_X4_paths 4 Q 0 0 G3 175 [some (.ref o), some (.int (iI n)), some (.int (iI w)), some (.int (iI p)), u, some (.int (iI (V 11))), some (.int (iI 0)), none] [] := by
      intro G3 J V' M2 e2 hbJ hR3 hk3 next u
      refine pin 0 _ G3 J V' M2 e2 (by decide) (by decide) rfl hbJ hR3 hk3 (fun G4 hR4 hk4 u => ?_) u
      refine pin 1 _ G4 _ V' M2 e2 (by decide) (by decide) rfl (bits_spj hbJ _) hR4 hk4 (fun G5 hR5 hk5 u => ?_) u
      refine pin 2 _ G5 _ V' M2 e2 (by decide) (by decide) rfl (bits_spj (bits_spj hbJ _) _) hR5 hk5 (fun G6 hR6 hk6 u => ?_) u
      refine exS rfl 6 _ _ _ _ _ _ ?_
      simp (disch := omega) only [exB, Nat.reduceAdd, Nat.reduceSub, Nat.reduceMul, Nat.reduceLeDiff, Nat.reduceLT, Nat.reduceEqDiff, Nat.reduceBEq, Int.reduceAdd, Int.reduceSub, Int.reduceMul, Int.reduceNeg, Int.reduceToNat, Int.reduceLE, Int.reduceLT, Int.reduceEq, Int.reduceGE, Int.reduceGT, ↓reduceIte, reduceCtorEq, gm_pe, gm_pn, gc_put, gl_put, gs_put, cd_X4_paths, iI_rt]
      exact next G6 hR6 hk6
    -- the cells of the path are joined
    have jn : ∀ (l' : List Int) (k : Int) (G3 : gH) (J : Int → Int) (V' : Nat → Int) (M2 : Nat → Int → Int), M2 0 = M 0 → (∀ x ∈ l', inC x) → (∀ (i : Nat) (x : Int), l'[i]? = some x → M2 10 (k + i) = x) → 0 ≤ k → k + l'.length ≤ 330 → V' 11 = k + l'.length → bits J → MR G3 o (setF M2 9 J) V' → MK G G3 o → (∀ G4, MR G4 o (setF M2 9 (spj (spj (spj (foldJ J l') (M 0 (169 + 9 * n + 0))) (M 0 (169 + 9 * n + 1))) (M 0 (169 + 9 * n + 2)))) V' → MK G G4 o → Q (some (.int (iI 1))) G4) → ∀ u, Wp X Y_X4_paths 4 Q 0 0 G3 144 [some (.ref o), some (.int (iI n)), some (.int (iI w)), some (.int (iI p)), u, some (.int (iI (V 11))), some (.int (iI k)), none] [] := by
      intro l'
      induction l' with
      | nil =>
        intro k G3 J V' M2 e2 hal hget k0 k1 hv hbJ hR3 hk3 next u
        have hv : V' 11 = k := by simpa using hv
        refine excS rfl 175 6 _ _ _ _ _ _ ?_
        simp (disch := omega) only [exB, Nat.reduceAdd, Nat.reduceSub, Nat.reduceMul, Nat.reduceLeDiff, Nat.reduceLT, Nat.reduceEqDiff, Nat.reduceBEq, Int.reduceAdd, Int.reduceSub, Int.reduceMul, Int.reduceNeg, Int.reduceToNat, Int.reduceLE, Int.reduceLT, Int.reduceEq, Int.reduceGE, Int.reduceGT, ↓reduceIte, reduceCtorEq, gm_pe, gm_pn, gc_put, gl_put, gs_put, cd_X4_paths, hR3.f, iI_rt, hv]
        exact ⟨fun _ => pins G3 J V' M2 e2 hbJ hR3 hk3 next u, fun z => absurd (Int.le_refl k) z⟩
      | cons x t ih =>
        intro k G3 J V' M2 e2 hal hget k0 k1 hv hbJ hR3 hk3 next u
        rw [List.length_cons] at k1 hv
        have zA : setF M2 9 J 10 = M2 10 := setF_n (by decide)
        have hx : M2 10 k = x := by have := hget 0 x rfl; simpa using this
        have hxc := hal x (List.mem_cons_self)
        obtain ⟨x0, x1⟩ := hxc
        refine excS rfl 144 14 _ _ _ _ _ _ ?_
        simp (disch := omega) only [exB, Nat.reduceAdd, Nat.reduceSub, Nat.reduceMul, Nat.reduceLeDiff, Nat.reduceLT, Nat.reduceEqDiff, Nat.reduceBEq, Int.reduceAdd, Int.reduceSub, Int.reduceMul, Int.reduceNeg, Int.reduceToNat, Int.reduceLE, Int.reduceLT, Int.reduceEq, Int.reduceGE, Int.reduceGT, ↓reduceIte, reduceCtorEq, gm_pe, gm_pn, gc_put, gl_put, gs_put, cd_X4_paths, hR3.f, iI_rt, zA, hx]
        refine ⟨fun z => absurd z (by omega), fun _ => ⟨by omega, by omega, by omega, by omega, ?_⟩⟩
        have hR4 := hR3.putA 9 (z := x) (v := 1) (by decide) x0 (by decide)
        rw [uM_set] at hR4
        exact ih (k + 1) _ (uN J x 1) V' M2 e2 (fun y hy => hal y (List.mem_cons_of_mem _ hy)) (fun i y hy => by rw [show k + 1 + (i : Int) = k + ((i + 1 : Nat) : Int) from by omega]; exact hget (i + 1) y (by rw [List.getElem?_cons_succ]; exact hy)) (by omega) (by omega) (by omega) (bits_u hbJ x) hR4 (hk3.put (a := o + 7) (by omega)) next u
    -- the path is walked
    have walk : ∀ (l' : List Int) (a : Int) (G3 : gH) (r : Int → Int) (m : Int), IsPath (M 0) n (V 13) (M 9) 1000000000 g a l' → 0 ≤ m → m + l'.length ≤ 330 → MR G3 o (setF M1 10 r) (uV V1 11 m) → MK G G3 o → (∀ G4, MR G4 o (setF M1 10 (wrL r m l')) (uV V1 11 (m + l'.length)) → MK G G4 o → ∀ u, Wp X Y_X4_paths 4 Q 0 0 G4 144 [some (.ref o), some (.int (iI n)), some (.int (iI w)), some (.int (iI p)), u, some (.int (iI (V 11))), some (.int (iI (V 11))), none] []) → Wp X Y_X4_paths 4 Q 0 0 G3 76 [some (.ref o), some (.int (iI n)), some (.int (iI w)), some (.int (iI p)), some (.int (iI a)), some (.int (iI (V 11))), none, none] [] := by
      intro l'
      induction l' with
      | nil => intro a G3 r m h; exact h.elim
      | cons x t ih =>
        intro a G3 r m h m0 m1 hR3 hk3 next
        obtain ⟨rfl, ⟨a0, a1⟩, hh⟩ := h
        rw [List.length_cons] at m1 next
        have z9 : setF M1 10 r 9 = M 9 := by rw [setF_n (by decide), s9]
        have z8 : setF M1 10 r 8 = g := by rw [setF_n (by decide), s8]
        have z0 : setF M1 10 r 0 = M 0 := by rw [setF_n (by decide), s0]
        have w11 : uV V1 11 m 11 = m := uV_s
        have w13 : uV V1 11 m 13 = V 13 := by rw [uV_n (by decide), v13]
        have hR4 := (hR3.putA 10 (z := m) (v := x) (by decide) m0 (by omega)).putV (f := 11) (v := m + 1) (by decide) (by omega)
        rw [uM_set, uV_uV] at hR4
        have hk4 := (hk3.put (a := o + 8) (j := m.toNat) (v := .int (iI x)) (by omega)).put (a := o) (j := 11) (v := .int (iI (m + 1))) (by omega)
        rcases hh with ⟨hj, rfl⟩ | ⟨hj, hgl, ht⟩
        · have jb := hJ x ⟨a0, a1⟩
          refine excS rfl 144 40 _ _ _ _ _ _ ?_
          simp (disch := omega) only [exB, Nat.reduceAdd, Nat.reduceSub, Nat.reduceMul, Nat.reduceLeDiff, Nat.reduceLT, Nat.reduceEqDiff, Nat.reduceBEq, Int.reduceAdd, Int.reduceSub, Int.reduceMul, Int.reduceNeg, Int.reduceToNat, Int.reduceLE, Int.reduceLT, Int.reduceEq, Int.reduceGE, Int.reduceGT, ↓reduceIte, reduceCtorEq, gm_pe, gm_pn, gc_put, gl_put, gs_put, cd_X4_paths, hR3.f, iI_rt, z9, w11]
          refine ⟨a0, by omega, fun _ => ⟨by omega, by omega, next _ hR4 hk4 _⟩, fun z => absurd z (by omega)⟩
        · have jb := hJ x ⟨a0, a1⟩
          refine excS rfl 144 40 _ _ _ _ _ _ ?_
          simp (disch := omega) only [exB, Nat.reduceAdd, Nat.reduceSub, Nat.reduceMul, Nat.reduceLeDiff, Nat.reduceLT, Nat.reduceEqDiff, Nat.reduceBEq, Int.reduceAdd, Int.reduceSub, Int.reduceMul, Int.reduceNeg, Int.reduceToNat, Int.reduceLE, Int.reduceLT, Int.reduceEq, Int.reduceGE, Int.reduceGT, ↓reduceIte, reduceCtorEq, gm_pe, gm_pn, gc_put, gl_put, gs_put, cd_X4_paths, hR3.f, iI_rt, z9, w11]
          refine ⟨a0, by omega, fun z => absurd hj (by omega), fun _ => ⟨by omega, by omega, ?_⟩⟩
          change MR (gput (gput G3 (o + 8) m.toNat (.int (iI x))) o 11 (.int (iI (m + 1)))) o _ _ at hR4
          generalize gput (gput G3 (o + 8) m.toNat (.int (iI x))) o 11 (.int (iI (m + 1))) = G4 at hR4 hk4 ⊢
          generalize hM4 : setF M1 10 (uN r m x) = M4 at hR4
          have y9 : M4 9 = M 9 := by rw [← hM4, setF_n (by decide), s9]
          have y8 : M4 8 = g := by rw [← hM4, setF_n (by decide), s8]
          have y0 : M4 0 = M 0 := by rw [← hM4, setF_n (by decide), s0]
          have y13 : uV V1 11 (m + 1) 13 = V 13 := by rw [uV_n (by decide), v13]
          refine gCall.of (m_nextOf hR4 (n := n) (c := x) (by rw [y0]; exact hr) hn ⟨a0, a1⟩ (by rw [y9]; exact hJ) (by rw [y13]; exact hd) (by rw [y8]; exact hF.1.1)) (by decide) (by first | omega | decide) (by first | omega | decide) ?_
          rintro r' G' ⟨rfl, rfl⟩
          rw [y0, y8, y9, y13]
          refine excS rfl 76 4 _ _ _ _ _ _ ?_
          simp (disch := omega) only [exB, Nat.reduceAdd, Nat.reduceSub, Nat.reduceMul, Nat.reduceLeDiff, Nat.reduceLT, Nat.reduceEqDiff, Nat.reduceBEq, Int.reduceAdd, Int.reduceSub, Int.reduceMul, Int.reduceNeg, Int.reduceToNat, Int.reduceLE, Int.reduceLT, Int.reduceEq, Int.reduceGE, Int.reduceGT, ↓reduceIte, reduceCtorEq, gm_pe, gm_pn, gc_put, gl_put, gs_put, cd_X4_paths]
          rw [← hM4] at hR4
          exact ih _ G' (uN r m x) (m + 1) ht (by omega) (by omega) hR4 hk4 (fun G5 hR5 hk5 u => next G5 (by rw [show m + ((t.length + 1 : Nat) : Int) = m + 1 + (t.length : Int) from by omega]; exact hR5) hk5 u)
    refine ⟨a0, by omega, ?_⟩
    refine walk l a G2 (M 10) (V 11) q2 hv1.1 (by omega) (by rw [← sA, setF_id, ← v11, uV_id]; exact hR2) hk2 (fun G4 hR4 hk4 u => ?_)
    have e : setF M1 10 (wrL (M 10) (V 11) l) = setF (setF M1 10 (wrL (M 10) (V 11) l)) 9 (M 9) := by
      rw [← s9]
      have : M1 9 = setF M1 10 (wrL (M 10) (V 11) l) 9 := (setF_n (by decide)).symm
      rw [this, setF_id]
    rw [e] at hR4
    refine jn l (V 11) G4 (M 9) _ _ (by rw [setF_n (by decide), s0]) (q2.all) (fun i x hx => by rw [setF_s]; exact wrL_get l _ _ i x hx) hv1.1 (by omega) (by rw [uV_s]) hJ hR4 hk4 (fun G5 hR5 hk5 => hfin G5 hk5 hR5) u
  refine excS rfl 40 20 _ _ _ _ _ _ ?_
  simp (disch := omega) only [exB, Nat.reduceAdd, Nat.reduceSub, Nat.reduceMul, Nat.reduceLeDiff, Nat.reduceLT, Nat.reduceEqDiff, Nat.reduceBEq, Int.reduceAdd, Int.reduceSub, Int.reduceMul, Int.reduceNeg, Int.reduceToNat, Int.reduceLE, Int.reduceLT, Int.reduceEq, Int.reduceGE, Int.reduceGT, ↓reduceIte, reduceCtorEq, gm_pe, gm_pn, gc_put, gl_put, gs_put, cd_X4_paths, hR1.f, iI_rt, s8]
  exact ⟨by omega, by omega, by omega, by omega, fun q => key p (by rw [if_neg (by omega)]), fun q => key (81 + p) (by rw [if_pos (by omega)])⟩
end
