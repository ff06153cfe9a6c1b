/-! THE MODEL 7: how far each cell is from what is joined -/
set_option maxRecDepth 100000
set_option maxHeartbeats 4000000
def wkL : List (Option Value) → List (Option Value) → Prop
  | [], _ => True
  | a' :: t', a :: t => (a' = none ∨ a' = a) ∧ wkL t' t
  | _ :: _, [] => False
theorem wkL_get : ∀ (l' l : List (Option Value)), wkL l' l → ∀ (i : Nat) (v : Value), l'[i]? = some (some v) → l[i]? = some (some v)
  | [], _, _, i, v, h => by simp at h
  | a' :: t', [], h, _, _, _ => h.elim
  | a' :: t', a :: t, h, 0, v, hv => by
    simp only [List.getElem?_cons_zero, Option.some.injEq] at hv ⊢
    rcases h.1 with q | q
    · rw [q] at hv; cases hv
    · rw [← q]; exact hv
  | a' :: t', a :: t, h, i + 1, v, hv => by
    simp only [List.getElem?_cons_succ] at hv ⊢
    exact wkL_get t' t h.2 i v hv
theorem Wp.wk' {X : gX} {Y : gM} {d : Nat} {Q : Option Value → gH → Prop} {k n : Nat} {G : gH} {pc : Nat} {l : List (Option Value)} (l' : List (Option Value)) {st : List Value} (h : Wp X Y d Q k n G pc l' st) (hl : wkL l' l) : Wp X Y d Q k n G pc l st := h.wk (wkL_get l' l hl)
abbrev inC (c : Int) : Prop := 0 ≤ c ∧ c < 162
def FarA (N : Int → Int) (n dg : Int) (J g : Int → Int) (F : Int) (c : Int) : Prop := J c ≠ 1 → g c < F → ∃ k, (0 ≤ k ∧ k < 3) ∧ inC (nb c k) ∧ en N n dg J (nb c k) ∧ g (nb c k) < g c ∧ sc N n J c (nb c k) + g (nb c k) ≤ g c
def FarI (N : Int → Int) (n dg : Int) (J g : Int → Int) (F : Int) : Prop := (∀ c, inC c → 0 ≤ g c ∧ g c ≤ F) ∧ (∀ c, inC c → J c = 1 → g c = 0) ∧ ∀ c, inC c → FarA N n dg J g F c
def FarB (N : Int → Int) (n dg : Int) (J g : Int → Int) (F : Int) (c k : Int) : Prop := J c ≠ 1 → inC (nb c k) → g (nb c k) ≠ F → en N n dg J (nb c k) → g c ≤ sc N n J c (nb c k) + g (nb c k)
/-- the distances that the reference ends with -/
def FarM (N : Int → Int) (n dg : Int) (J g : Int → Int) : Prop := FarI N n dg J g 1000000000 ∧ ∀ c k, inC c → 0 ≤ k → k < 3 → FarB N n dg J g 1000000000 c k
theorem nb_ne {c k : Int} (hc : inC c) : nb c k ≠ c := by
  unfold inC at hc
  unfold nb
  repeat' split
  all_goals omega
theorem FarI.upd {N : Int → Int} {n dg : Int} {J g : Int → Int} {F c k : Int} (hr : RC N) (h : FarI N n dg J g F) (hc : inC c) (hk : 0 ≤ k ∧ k < 3) (hJ : J c ≠ 1) (hn : inC (nb c k)) (he : en N n dg J (nb c k)) (hv : sc N n J c (nb c k) + g (nb c k) < g c) : FarI N n dg J (uN g c (sc N n J c (nb c k) + g (nb c k))) F := by
  obtain ⟨h1, h2, h3⟩ := h
  have hs := sc_b (a := c) hr hn he
  have g1 := h1 _ hn
  have g2 := h1 _ hc
  refine ⟨fun z hz => ?_, fun z hz hj => ?_, fun z hz hj hl => ?_⟩
  · unfold uN; split
    · omega
    · exact h1 z hz
  · unfold uN; rw [if_neg (fun q => hJ (by rw [← q]; exact hj))]; exact h2 z hz hj
  · by_cases hzc : z = c
    · subst hzc
      refine ⟨k, hk, hn, he, ?_, ?_⟩
      · unfold uN; rw [if_neg (nb_ne hc), if_pos rfl]; omega
      · unfold uN; rw [if_neg (nb_ne hc), if_pos rfl]; omega
    · have e : uN g c (sc N n J c (nb c k) + g (nb c k)) z = g z := by unfold uN; rw [if_neg hzc]
      rw [e] at hl ⊢
      obtain ⟨k', a1, a2, a3, a4, a5⟩ := h3 z hz hj hl
      refine ⟨k', a1, a2, a3, ?_, ?_⟩
      · unfold uN; split
        · next q => rw [q] at a4; omega
        · exact a4
      · unfold uN; split
        · next q =>
          have q5 : g (nb z k') = g c := by rw [q]
          omega
        · exact a5
theorem sumI_upd {g : Int → Int} {c v : Int} (hc : 0 ≤ c) : ∀ n : Nat, sumI (uN g c v) n = sumI g n + (if c < n then v - g c else 0)
  | 0 => by simp [sumI]; omega
  | n + 1 => by
    show sumI (uN g c v) n + uN g c v n = sumI g n + g n + _
    rw [sumI_upd hc n]
    unfold uN
    by_cases h1 : c < n
    · rw [if_pos h1, if_neg (by omega), if_pos (by omega)]; omega
    · by_cases h2 : (n : Int) = c
      · rw [if_neg h1, if_pos h2, if_pos (by omega), h2]; omega
      · rw [if_neg h1, if_neg h2, if_neg (by omega)]
        omega
theorem sumI_nn {g : Int → Int} : ∀ n : Nat, (∀ i : Nat, i < n → 0 ≤ g i) → 0 ≤ sumI g n
  | 0, _ => Int.le_refl 0
  | n + 1, h => by
    have := sumI_nn n (fun i hi => h i (by omega))
    have := h n (by omega)
    show 0 ≤ sumI g n + g n
    omega
def setF (M : Nat → Int → Int) (f : Nat) (g : Int → Int) : Nat → Int → Int := fun f' => if f' = f then g else M f'
theorem setF_s {M : Nat → Int → Int} {f : Nat} {g : Int → Int} : setF M f g f = g := by simp [setF]
theorem setF_n {M : Nat → Int → Int} {f f' : Nat} {g : Int → Int} (h : f' ≠ f) : setF M f g f' = M f' := by simp [setF, h]
theorem uM_set {M : Nat → Int → Int} {f : Nat} {g : Int → Int} {z v : Int} : uM (setF M f g) f z v = setF M f (uN g z v) := by
  funext f' j
  by_cases h : f' = f
  · subst h; simp [uM, setF, uN]
  · simp [uM, setF, h]
theorem setF_id {M : Nat → Int → Int} {f : Nat} : setF M f (M f) = M := by
  funext f'
  by_cases h : f' = f
  · subst h; simp [setF]
  · simp [setF, h]
section
variable {X : gX} {G : gH} {o : Nat} {N : Int → Int} {L : List (Int → Int)} {T : List Int} {M : Nat → Int → Int} {V : Nat → Int}
theorem m_measures {n : Int} (hM : MR G o M V) (hr : RC (M 0)) (hn : 0 ≤ n ∧ n < 6) (hJ : ∀ c, inC c → bit (M 9 c)) (hd : bit (V 13)) : Tri X 3 Y_X4_measures [.ref o, .int (iI n)] 0 0 G (fun r G' => r = none ∧ MK G G' o ∧ ∃ g, MR G' o (setF M 8 g) V ∧ FarM (M 0) n (V 13) (M 9) g) := by
  refine Tri.of (by decide +kernel) (Nat.le_of_ble_eq_true rfl) ?_
  generalize hQ : (fun (r : Option Value) G' => r = none ∧ MK G G' o ∧ ∃ g, MR G' o (setF M 8 g) V ∧ FarM (M 0) n (V 13) (M 9) g) = Q
  have s0 : ∀ g, setF M 8 g 0 = M 0 := fun g => setF_n (by decide)
  have s9 : ∀ g, setF M 8 g 9 = M 9 := fun g => setF_n (by decide)
  have s8 : ∀ g, setF M 8 g 8 = g := fun g => setF_s
  -- one more pass
  have pass : ∀ (S : Nat) (g : Int → Int) (G' : gH) (more : Int), (more = 0 ∧ (∀ c k, inC c → 0 ≤ k → k < 3 → FarB (M 0) n (V 13) (M 9) g 1000000000 c k) ∨ more = 1) → (sumI g 162).toNat = S → FarI (M 0) n (V 13) (M 9) g 1000000000 → MR G' o (setF M 8 g) V → MK G G' o → Wp X Y_X4_measures 3 Q 0 0 G' 38 [some (.ref o), some (.int (iI n)), some (.int (iI more)), none, none, none, none] [] := by
    intro S
    induction S using Nat.strongRecOn with
    | ind S ih =>
    intro g G' more hm hS hI hR hk
    rcases hm with ⟨rfl, hB⟩ | rfl
    · refine exS rfl 4 _ _ _ _ _ _ ?_
      simp (disch := omega) only [exB, Nat.reduceAdd, Nat.reduceSub, Nat.reduceMul, Nat.reduceLeDiff, Nat.reduceLT, Nat.reduceEqDiff, Nat.reduceBEq, Int.reduceAdd, Int.reduceSub, Int.reduceMul, Int.reduceNeg, Int.reduceToNat, Int.reduceLE, Int.reduceLT, Int.reduceEq, Int.reduceGE, Int.reduceGT, ↓reduceIte, reduceCtorEq, gm_pe, gm_pn, gc_put, gl_put, gs_put, cd_X4_measures, iI_rt]
      subst hQ
      exact ⟨rfl, hk, g, hR, hI, hB⟩
    refine excS rfl 46 8 _ _ _ _ _ _ ?_
    simp (disch := omega) only [exB, Nat.reduceAdd, Nat.reduceSub, Nat.reduceMul, Nat.reduceLeDiff, Nat.reduceLT, Nat.reduceEqDiff, Nat.reduceBEq, Int.reduceAdd, Int.reduceSub, Int.reduceMul, Int.reduceNeg, Int.reduceToNat, Int.reduceLE, Int.reduceLT, Int.reduceEq, Int.reduceGE, Int.reduceGT, ↓reduceIte, reduceCtorEq, gm_pe, gm_pn, gc_put, gl_put, gs_put, cd_X4_measures, iI_rt]
    have hnn : 0 ≤ sumI g 162 := sumI_nn 162 (fun i hi => (hI.1 i ⟨by omega, by omega⟩).1)
    -- the cells
    refine up1 (σ := gH × (Int → Int) × Int) (W := fun c s => Wp X Y_X4_measures 3 Q 0 0 s.1 46 [some (.ref o), some (.int (iI n)), some (.int (iI s.2.2)), some (.int (iI c)), none, none, none] []) (P := fun c s => MR s.1 o (setF M 8 s.2.1) V ∧ MK G s.1 o ∧ FarI (M 0) n (V 13) (M 9) s.2.1 1000000000 ∧ ((s.2.2 = 0 ∧ s.2.1 = g ∧ ∀ c' k', 0 ≤ c' → c' < c → 0 ≤ k' → k' < 3 → FarB (M 0) n (V 13) (M 9) g 1000000000 c' k') ∨ (s.2.2 = 1 ∧ sumI s.2.1 162 < sumI g 162))) (hi := 162) 0 ?_ ?_ 0 (G', g, 0) (by decide) (by decide) ⟨hR, hk, hI, Or.inl ⟨rfl, rfl, fun c' k' a b => by omega⟩⟩
    case refine_2 =>
      rintro ⟨G2, g2, m2⟩ ⟨hR2, hk2, hI2, hc2⟩
      dsimp only at hR2 hk2 hI2 hc2 ⊢
      refine excS rfl 38 8 _ _ _ _ _ _ ?_
      simp (disch := omega) only [exB, Nat.reduceAdd, Nat.reduceSub, Nat.reduceMul, Nat.reduceLeDiff, Nat.reduceLT, Nat.reduceEqDiff, Nat.reduceBEq, Int.reduceAdd, Int.reduceSub, Int.reduceMul, Int.reduceNeg, Int.reduceToNat, Int.reduceLE, Int.reduceLT, Int.reduceEq, Int.reduceGE, Int.reduceGT, ↓reduceIte, reduceCtorEq, gm_pe, gm_pn, gc_put, gl_put, gs_put, cd_X4_measures, iI_rt]
      refine Wp.wk' [some (.ref o), some (.int (iI n)), some (.int (iI m2)), none, none, none, none] ?_ (by simp [wkL])
      have hnn2 : 0 ≤ sumI g2 162 := sumI_nn 162 (fun i hi => (hI2.1 i ⟨by omega, by omega⟩).1)
      rcases hc2 with ⟨rfl, rfl, hB⟩ | ⟨rfl, hl⟩
      · exact Wp.post (by
          refine exS rfl 4 _ _ _ _ _ _ ?_
          simp (disch := omega) only [exB, Nat.reduceAdd, Nat.reduceSub, Nat.reduceMul, Nat.reduceLeDiff, Nat.reduceLT, Nat.reduceEqDiff, Nat.reduceBEq, Int.reduceAdd, Int.reduceSub, Int.reduceMul, Int.reduceNeg, Int.reduceToNat, Int.reduceLE, Int.reduceLT, Int.reduceEq, Int.reduceGE, Int.reduceGT, ↓reduceIte, reduceCtorEq, gm_pe, gm_pn, gc_put, gl_put, gs_put, cd_X4_measures, iI_rt]
          subst hQ
          exact ⟨rfl, hk2, g2, hR2, hI2, fun c k hc h0 h1 => hB c k hc.1 hc.2 h0 h1⟩) (fun _ _ q => q)
      · exact ih _ (by omega) g2 G2 1 (Or.inr rfl) rfl hI2 hR2 hk2
    rintro c ⟨G2, g2, m2⟩ hc0 hc1 ⟨hR2, hk2, hI2, hc2⟩ ihc
    dsimp only at hR2 hk2 hI2 hc2 ⊢
    have mb : bit m2 := by rcases hc2 with ⟨q, -⟩ | ⟨q, -⟩ <;> omega
    refine excS rfl 56 8 _ _ _ _ _ _ ?_
    simp (disch := omega) only [exB, Nat.reduceAdd, Nat.reduceSub, Nat.reduceMul, Nat.reduceLeDiff, Nat.reduceLT, Nat.reduceEqDiff, Nat.reduceBEq, Int.reduceAdd, Int.reduceSub, Int.reduceMul, Int.reduceNeg, Int.reduceToNat, Int.reduceLE, Int.reduceLT, Int.reduceEq, Int.reduceGE, Int.reduceGT, ↓reduceIte, reduceCtorEq, gm_pe, gm_pn, gc_put, gl_put, gs_put, cd_X4_measures, iI_rt]
    refine ⟨fun h => absurd h (by omega), fun _ => ?_⟩
    -- the neighbours
    refine up1 (σ := gH × (Int → Int) × Int) (W := fun k s => Wp X Y_X4_measures 3 Q 0 0 s.1 56 [some (.ref o), some (.int (iI n)), some (.int (iI s.2.2)), some (.int (iI c)), some (.int (iI k)), none, none] []) (P := fun k s => MR s.1 o (setF M 8 s.2.1) V ∧ MK G s.1 o ∧ FarI (M 0) n (V 13) (M 9) s.2.1 1000000000 ∧ ((s.2.2 = 0 ∧ s.2.1 = g ∧ (∀ c' k', 0 ≤ c' → c' < c → 0 ≤ k' → k' < 3 → FarB (M 0) n (V 13) (M 9) g 1000000000 c' k') ∧ ∀ k', 0 ≤ k' → k' < k → FarB (M 0) n (V 13) (M 9) g 1000000000 c k') ∨ (s.2.2 = 1 ∧ sumI s.2.1 162 < sumI g 162))) (hi := 3) 0 ?_ ?_ 0 (G2, g2, m2) (by decide) (by decide) ⟨hR2, hk2, hI2, hc2.imp (fun q => ⟨q.1, q.2.1, q.2.2, fun k' a b => by omega⟩) id⟩
    case refine_2 =>
      rintro ⟨G3, g3, m3⟩ ⟨hR3, hk3, hI3, hc3⟩
      dsimp only at hR3 hk3 hI3 hc3 ⊢
      refine excS rfl 46 8 _ _ _ _ _ _ ?_
      simp (disch := omega) only [exB, Nat.reduceAdd, Nat.reduceSub, Nat.reduceMul, Nat.reduceLeDiff, Nat.reduceLT, Nat.reduceEqDiff, Nat.reduceBEq, Int.reduceAdd, Int.reduceSub, Int.reduceMul, Int.reduceNeg, Int.reduceToNat, Int.reduceLE, Int.reduceLT, Int.reduceEq, Int.reduceGE, Int.reduceGT, ↓reduceIte, reduceCtorEq, gm_pe, gm_pn, gc_put, gl_put, gs_put, cd_X4_measures, iI_rt]
      refine Wp.wk' [some (.ref o), some (.int (iI n)), some (.int (iI m3)), some (.int (iI (c + 1))), none, none, none] ?_ (by simp [wkL])
      refine ihc (G3, g3, m3) ⟨hR3, hk3, hI3, hc3.imp (fun q => ⟨q.1, q.2.1, fun c' k' a b a2 b2 => ?_⟩) id⟩
      by_cases hcc : c' = c
      · subst hcc; exact q.2.2.2 k' a2 b2
      · exact q.2.2.1 c' k' a (by omega) a2 b2
    rintro k ⟨G3, g3, m3⟩ k0 k1 ⟨hR3, hk3, hI3, hc3⟩ ihk
    dsimp only at hR3 hk3 hI3 hc3 ⊢
    have mb3 : bit m3 := by rcases hc3 with ⟨q, -⟩ | ⟨q, -⟩ <;> omega
    have bJ := hJ c ⟨hc0, hc1⟩
    have bF := hI3.1 c ⟨hc0, hc1⟩
    -- nothing changes
    have skip : FarB (M 0) n (V 13) (M 9) g3 1000000000 c k → ∀ u v : Option Value, Wp X Y_X4_measures 3 Q 0 0 G3 156 [some (.ref o), some (.int (iI n)), some (.int (iI m3)), some (.int (iI c)), some (.int (iI k)), u, v] [] := by
      intro hB u v
      refine excS rfl 56 8 _ _ _ _ _ _ ?_
      simp (disch := omega) only [exB, Nat.reduceAdd, Nat.reduceSub, Nat.reduceMul, Nat.reduceLeDiff, Nat.reduceLT, Nat.reduceEqDiff, Nat.reduceBEq, Int.reduceAdd, Int.reduceSub, Int.reduceMul, Int.reduceNeg, Int.reduceToNat, Int.reduceLE, Int.reduceLT, Int.reduceEq, Int.reduceGE, Int.reduceGT, ↓reduceIte, reduceCtorEq, gm_pe, gm_pn, gc_put, gl_put, gs_put, cd_X4_measures, iI_rt]
      refine Wp.wk' [some (.ref o), some (.int (iI n)), some (.int (iI m3)), some (.int (iI c)), some (.int (iI (k + 1))), none, none] ?_ (by simp [wkL])
      refine ihk (G3, g3, m3) ⟨hR3, hk3, hI3, hc3.imp (fun q => ⟨q.1, q.2.1, q.2.2.1, fun k' a b => ?_⟩) id⟩
      by_cases hkk : k' = k
      · subst hkk; rw [← q.2.1]; exact hB
      · exact q.2.2.2 k' a (by omega)
    refine excS rfl 156 8 _ _ _ _ _ _ ?_
    simp (disch := omega) only [exB, Nat.reduceAdd, Nat.reduceSub, Nat.reduceMul, Nat.reduceLeDiff, Nat.reduceLT, Nat.reduceEqDiff, Nat.reduceBEq, Int.reduceAdd, Int.reduceSub, Int.reduceMul, Int.reduceNeg, Int.reduceToNat, Int.reduceLE, Int.reduceLT, Int.reduceEq, Int.reduceGE, Int.reduceGT, ↓reduceIte, reduceCtorEq, gm_pe, gm_pn, gc_put, gl_put, gs_put, cd_X4_measures, iI_rt]
    refine ⟨fun h => absurd h (by omega), fun _ => ?_⟩
    refine gCall.of (m_neighbour ⟨hc0, hc1⟩ ⟨k0, k1⟩) (by decide) (by first | omega | decide) (by first | omega | decide) ?_
    rintro r G' ⟨rfl, rfl⟩
    have hnb := nb_b (k := k) ⟨hc0, hc1⟩
    generalize hto : nb c k = to at hnb
    by_cases ht : to = -1
    · subst ht
      refine excS rfl 156 12 _ _ _ _ _ _ ?_
      simp (disch := omega) only [exB, Nat.reduceAdd, Nat.reduceSub, Nat.reduceMul, Nat.reduceLeDiff, Nat.reduceLT, Nat.reduceEqDiff, Nat.reduceBEq, Int.reduceAdd, Int.reduceSub, Int.reduceMul, Int.reduceNeg, Int.reduceToNat, Int.reduceLE, Int.reduceLT, Int.reduceEq, Int.reduceGE, Int.reduceGT, ↓reduceIte, reduceCtorEq, gm_pe, gm_pn, gc_put, gl_put, gs_put, cd_X4_measures, iI_rt]
      exact skip (fun _ q => absurd q (by rw [hto]; unfold inC; omega)) _ _
    have hti : inC to := hnb.resolve_left ht
    have bT := hI3.1 to hti
    obtain ⟨t0, t1⟩ := hti
    refine excS rfl 156 20 _ _ _ _ _ _ ?_
    simp (disch := omega) only [exB, Nat.reduceAdd, Nat.reduceSub, Nat.reduceMul, Nat.reduceLeDiff, Nat.reduceLT, Nat.reduceEqDiff, Nat.reduceBEq, Int.reduceAdd, Int.reduceSub, Int.reduceMul, Int.reduceNeg, Int.reduceToNat, Int.reduceLE, Int.reduceLT, Int.reduceEq, Int.reduceGE, Int.reduceGT, ↓reduceIte, reduceCtorEq, gm_pe, gm_pn, gc_put, gl_put, gs_put, cd_X4_measures, hR3.f, iI_rt, s9, s8]
    refine ⟨fun q => absurd q (by omega), fun _ => ⟨by omega, by omega, fun j1 => skip (fun q => absurd q (by omega)) _ _, fun j1 => ⟨by omega, by omega, fun j2 => ?_, fun j2 => skip (fun _ _ q => absurd q (by rw [hto]; omega)) _ _⟩⟩⟩
    refine gCall.of (m_into (n := n) (a := c) (b := to) hR3 (by rw [s0]; exact hr) hn ⟨hc0, hc1⟩ ⟨t0, t1⟩ (by rw [s9]; exact hJ to ⟨t0, t1⟩) hd) (by decide) (by first | omega | decide) (by first | omega | decide) ?_
    rintro r G' ⟨rfl, rfl⟩
    rw [s0, s9]
    by_cases he : en (M 0) n (V 13) (M 9) to
    · rw [if_pos he]
      have hs := sc_b (a := c) hr ⟨t0, t1⟩ he
      have lt : g3 to < 1000000000 := by omega
      refine excS rfl 156 30 _ _ _ _ _ _ ?_
      simp (disch := omega) only [exB, Nat.reduceAdd, Nat.reduceSub, Nat.reduceMul, Nat.reduceLeDiff, Nat.reduceLT, Nat.reduceEqDiff, Nat.reduceBEq, Int.reduceAdd, Int.reduceSub, Int.reduceMul, Int.reduceNeg, Int.reduceToNat, Int.reduceLE, Int.reduceLT, Int.reduceEq, Int.reduceGE, Int.reduceGT, ↓reduceIte, reduceCtorEq, gm_pe, gm_pn, gc_put, gl_put, gs_put, cd_X4_measures, hR3.f, iI_rt, s9, s8]
      refine ⟨fun q => absurd q (by omega), fun _ => ⟨by omega, by omega, by omega, by omega, fun q => skip (fun _ _ _ _ => by rw [hto]; exact q) _ _, fun q => ⟨by omega, by omega, by omega, by omega, ?_⟩⟩⟩
      have hI4 := hI3.upd (k := k) hr ⟨hc0, hc1⟩ ⟨k0, k1⟩ (by omega) (by rw [hto]; exact ⟨t0, t1⟩) (by rw [hto]; exact he) (by rw [hto]; omega)
      rw [hto] at hI4
      have hR4 := hR3.putA 8 (z := c) (v := sc (M 0) n (M 9) c to + g3 to) (by decide) hc0 (by unfold i32; omega)
      rw [uM_set] at hR4
      refine excS rfl 56 8 _ _ _ _ _ _ ?_
      simp (disch := omega) only [exB, Nat.reduceAdd, Nat.reduceSub, Nat.reduceMul, Nat.reduceLeDiff, Nat.reduceLT, Nat.reduceEqDiff, Nat.reduceBEq, Int.reduceAdd, Int.reduceSub, Int.reduceMul, Int.reduceNeg, Int.reduceToNat, Int.reduceLE, Int.reduceLT, Int.reduceEq, Int.reduceGE, Int.reduceGT, ↓reduceIte, reduceCtorEq, gm_pe, gm_pn, gc_put, gl_put, gs_put, cd_X4_measures, iI_rt]
      refine Wp.wk' [some (.ref o), some (.int (iI n)), some (.int (iI 1)), some (.int (iI c)), some (.int (iI (k + 1))), none, none] ?_ (by simp [wkL])
      refine ihk (_, uN g3 c (sc (M 0) n (M 9) c to + g3 to), 1) ⟨hR4, ?_, hI4, Or.inr ⟨rfl, ?_⟩⟩
      · exact hk3.put (by omega)
      · have := sumI_upd (g := g3) (v := sc (M 0) n (M 9) c to + g3 to) hc0 162
        rw [if_pos (by omega)] at this
        dsimp only
        rcases hc3 with ⟨-, e, -⟩ | ⟨-, e⟩
        · rw [e] at this ⊢; rw [e] at q; omega
        · omega
    · rw [if_neg he]
      refine excS rfl 156 8 _ _ _ _ _ _ ?_
      simp (disch := omega) only [exB, Nat.reduceAdd, Nat.reduceSub, Nat.reduceMul, Nat.reduceLeDiff, Nat.reduceLT, Nat.reduceEqDiff, Nat.reduceBEq, Int.reduceAdd, Int.reduceSub, Int.reduceMul, Int.reduceNeg, Int.reduceToNat, Int.reduceLE, Int.reduceLT, Int.reduceEq, Int.reduceGE, Int.reduceGT, ↓reduceIte, reduceCtorEq, gm_pe, gm_pn, gc_put, gl_put, gs_put, cd_X4_measures, hR3.f, iI_rt, s9, s8]
      exact skip (fun _ _ _ q => absurd q (by rw [hto]; exact he)) _ _
  -- the begin
  refine excS rfl 2 2 _ _ _ _ _ _ ?_
  simp (disch := omega) only [exB, Nat.reduceAdd, Nat.reduceSub, Nat.reduceMul, Nat.reduceLeDiff, Nat.reduceLT, Nat.reduceEqDiff, Nat.reduceBEq, Int.reduceAdd, Int.reduceSub, Int.reduceMul, Int.reduceNeg, Int.reduceToNat, Int.reduceLE, Int.reduceLT, Int.reduceEq, Int.reduceGE, Int.reduceGT, ↓reduceIte, reduceCtorEq, gm_pe, gm_pn, gc_put, gl_put, gs_put, cd_X4_measures, iI_rt]
  refine up1 (σ := gH × (Int → Int)) (W := fun c s => Wp X Y_X4_measures 3 Q 0 0 s.1 2 [some (.ref o), some (.int (iI n)), some (.int (iI c)), none, none, none, none] []) (P := fun c s => MR s.1 o (setF M 8 s.2) V ∧ MK G s.1 o ∧ ∀ c', 0 ≤ c' → c' < c → s.2 c' = if M 9 c' = 1 then 0 else 1000000000) (hi := 162) 0 ?_ ?_ 0 (G, M 8) (by decide) (by decide) ⟨by rw [setF_id]; exact hM, MK.refl, fun c' a b => by omega⟩
  case refine_2 =>
    rintro ⟨G', g⟩ ⟨hR, hk, hg⟩
    dsimp only at hR hk hg ⊢
    refine excS rfl 38 6 _ _ _ _ _ _ ?_
    simp (disch := omega) only [exB, Nat.reduceAdd, Nat.reduceSub, Nat.reduceMul, Nat.reduceLeDiff, Nat.reduceLT, Nat.reduceEqDiff, Nat.reduceBEq, Int.reduceAdd, Int.reduceSub, Int.reduceMul, Int.reduceNeg, Int.reduceToNat, Int.reduceLE, Int.reduceLT, Int.reduceEq, Int.reduceGE, Int.reduceGT, ↓reduceIte, reduceCtorEq, gm_pe, gm_pn, gc_put, gl_put, gs_put, cd_X4_measures, iI_rt]
    refine pass _ g G' 1 (Or.inr rfl) rfl ⟨fun c hc => ?_, fun c hc hj => ?_, fun c hc hj hl => ?_⟩ hR hk
    · rw [hg c hc.1 hc.2]; split <;> omega
    · rw [hg c hc.1 hc.2, if_pos hj]
    · rw [hg c hc.1 hc.2, if_neg hj] at hl; omega
  rintro c ⟨G', g⟩ hc0 hc1 ⟨hR, hk, hg⟩ ih
  dsimp only at hR hk hg ⊢
  have bJ := hJ c ⟨hc0, hc1⟩
  have st : ∀ v, v = (if M 9 c = 1 then 0 else 1000000000 : Int) → MR (gput G' (o + 6) c.toNat (.int (iI v))) o (setF M 8 (uN g c v)) V ∧ MK G (gput G' (o + 6) c.toNat (.int (iI v))) o ∧ ∀ c', 0 ≤ c' → c' < c + 1 → uN g c v c' = if M 9 c' = 1 then 0 else 1000000000 := by
    intro v hv
    have h4 := hR.putA 8 (z := c) (v := v) (by decide) hc0 (by unfold i32; split at hv <;> omega)
    rw [uM_set] at h4
    refine ⟨h4, ?_, fun c' a b => ?_⟩
    · exact hk.put (by omega)
    · unfold uN
      split
      · next q => rw [hv, q]
      · exact hg c' a (by omega)
  refine excS rfl 2 20 _ _ _ _ _ _ ?_
  simp (disch := omega) only [exB, Nat.reduceAdd, Nat.reduceSub, Nat.reduceMul, Nat.reduceLeDiff, Nat.reduceLT, Nat.reduceEqDiff, Nat.reduceBEq, Int.reduceAdd, Int.reduceSub, Int.reduceMul, Int.reduceNeg, Int.reduceToNat, Int.reduceLE, Int.reduceLT, Int.reduceEq, Int.reduceGE, Int.reduceGT, ↓reduceIte, reduceCtorEq, gm_pe, gm_pn, gc_put, gl_put, gs_put, cd_X4_measures, hR.f, iI_rt, s9, s8]
  refine ⟨fun q => absurd q (by omega), fun _ => ⟨by omega, by omega, fun q => ⟨by omega, by omega, ?_⟩, fun q => ⟨by omega, by omega, ?_⟩⟩⟩
  · refine Wp.wk' [some (.ref o), some (.int (iI n)), some (.int (iI (c + 1))), none, none, none, none] ?_ (by simp [wkL])
    exact ih (_, uN g c 1000000000) (st _ (by rw [if_neg (by omega)]))
  · refine Wp.wk' [some (.ref o), some (.int (iI n)), some (.int (iI (c + 1))), none, none, none, none] ?_ (by simp [wkL])
    exact ih (_, uN g c 0) (st _ (by rw [if_pos (by omega)]))
end
