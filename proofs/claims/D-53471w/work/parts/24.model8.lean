/-! THE MODEL 8: the next cell, paths, routes -/
set_option maxRecDepth 100000
set_option maxHeartbeats 4000000
/-- to the k-th neighbour the cheapest path goes -/
abbrev tk (N : Int → Int) (n dg : Int) (J : Int → Int) (F : Int) (g : Int → Int) (c k : Int) : Prop := inC (nb c k) ∧ g (nb c k) ≠ F ∧ en N n dg J (nb c k) ∧ sc N n J c (nb c k) + g (nb c k) = g c
def nxt (N : Int → Int) (n dg : Int) (J : Int → Int) (F : Int) (g : Int → Int) (c : Int) : Int := if tk N n dg J F g c 0 then nb c 0 else if tk N n dg J F g c 1 then nb c 1 else if tk N n dg J F g c 2 then nb c 2 else -1
/-- the path from a cell on -/
def IsPath (N : Int → Int) (n dg : Int) (J : Int → Int) (F : Int) (g : Int → Int) : Int → List Int → Prop
  | _, [] => False
  | c, x :: t => x = c ∧ inC c ∧ ((J c = 1 ∧ t = []) ∨ (J c ≠ 1 ∧ g c < F ∧ IsPath N n dg J F g (nxt N n dg J F g c) t))
/-- how many cells are less far -/
def lessC (g : Int → Int) (c : Int) : Int := sumI (fun z => if g z < g c then 1 else 0) 162
theorem sumI_le {f h : Int → Int} : ∀ n : Nat, (∀ i : Nat, i < n → f i ≤ h i) → sumI f n ≤ sumI h n
  | 0, _ => Int.le_refl 0
  | n + 1, hh => by
    have := sumI_le n (fun i hi => hh i (by omega))
    have := hh n (by omega)
    show sumI f n + f n ≤ sumI h n + h n
    omega
theorem sumI_lt {f h : Int → Int} : ∀ (n k : Nat), k < n → f k < h k → (∀ i : Nat, i < n → f i ≤ h i) → sumI f n < sumI h n
  | 0, k, hk, _, _ => absurd hk (by omega)
  | n + 1, k, hk, hl, hh => by
    show sumI f n + f n < sumI h n + h n
    by_cases e : k = n
    · subst e
      have := sumI_le k (fun i hi => hh i (by omega))
      omega
    · have := sumI_lt n k (by omega) hl (fun i hi => hh i (by omega))
      have := hh n (by omega)
      omega
theorem sumI_c {v : Int} : ∀ n : Nat, sumI (fun _ => v) n = n * v
  | 0 => by simp [sumI]
  | n + 1 => by
    show sumI (fun _ => v) n + v = _
    rw [sumI_c n]
    rw [show ((n + 1 : Nat) : Int) = (n : Int) + 1 from by omega, Int.add_mul, Int.one_mul]
theorem lessC_lt {g : Int → Int} {a b : Int} (hb : inC b) (h : g b < g a) : lessC g b < lessC g a := by
  unfold lessC
  refine sumI_lt 162 b.toNat (by unfold inC at hb; omega) ?_ (fun i hi => ?_)
  · have : ((b.toNat : Nat) : Int) = b := by unfold inC at hb; omega
    rw [this]
    simp only [Int.lt_irrefl, if_false, h, if_true]
    decide
  · split
    · rw [if_pos (by omega)]; exact Int.le_refl 1
    · split <;> omega
theorem lessC_b {g : Int → Int} {a : Int} (ha : inC a) : 0 ≤ lessC g a ∧ lessC g a ≤ 161 := by
  have h1 : lessC g a < sumI (fun _ => 1) 162 := by
    unfold lessC
    refine sumI_lt 162 a.toNat (by unfold inC at ha; omega) ?_ (fun i hi => ?_)
    · have : ((a.toNat : Nat) : Int) = a := by unfold inC at ha; omega
      rw [this]
      simp only [Int.lt_irrefl, if_false]
      decide
    · split <;> omega
  rw [sumI_c] at h1
  have h2 : 0 ≤ lessC g a := sumI_nn 162 (fun i hi => by split <;> omega)
  omega
theorem nxt_of {N : Int → Int} {n dg : Int} {J : Int → Int} {F : Int} {g : Int → Int} {c k : Int} (hk : 0 ≤ k ∧ k < 3) (h : tk N n dg J F g c k) : ∃ k', (0 ≤ k' ∧ k' < 3) ∧ tk N n dg J F g c k' ∧ nxt N n dg J F g c = nb c k' := by
  unfold nxt
  by_cases h0 : tk N n dg J F g c 0
  · rw [if_pos h0]; exact ⟨0, by decide, h0, rfl⟩
  by_cases h1 : tk N n dg J F g c 1
  · rw [if_neg h0, if_pos h1]; exact ⟨1, by decide, h1, rfl⟩
  by_cases h2 : tk N n dg J F g c 2
  · rw [if_neg h0, if_neg h1, if_pos h2]; exact ⟨2, by decide, h2, rfl⟩
  have : k = 0 ∨ k = 1 ∨ k = 2 := by omega
  rcases this with rfl | rfl | rfl
  · exact absurd h h0
  · exact absurd h h1
  · exact absurd h h2
/-- a fixpoint of the distances: what both programs end with, on some cells -/
def FarS (N : Int → Int) (n dg : Int) (J : Int → Int) (F : Int) (g : Int → Int) (c : Int) : Prop := J c ≠ 1 → g c < F → ∃ k, (0 ≤ k ∧ k < 3) ∧ inC (nb c k) ∧ en N n dg J (nb c k) ∧ g (nb c k) < g c ∧ sc N n J c (nb c k) + g (nb c k) = g c
theorem FarM.s {N : Int → Int} {n dg : Int} {J g : Int → Int} (h : FarM N n dg J g) {c : Int} (hc : inC c) : FarS N n dg J 1000000000 g c := by
  intro hj hl
  obtain ⟨k, hk, a, b, d, e⟩ := h.1.2.2 c hc hj hl
  refine ⟨k, hk, a, b, d, ?_⟩
  have := h.2 c k hc hk.1 hk.2 hj a (by omega) b
  omega
theorem far_b {N : Int → Int} {n dg : Int} {J g : Int → Int} {F : Int} (hr : RC N) (h0 : ∀ c, inC c → 0 ≤ g c) (hj : ∀ c, inC c → J c = 1 → g c = 0) (hs : ∀ c, inC c → en N n dg J c → FarS N n dg J F g c) : ∀ (m : Nat) (c : Int), (g c).toNat = m → inC c → FarS N n dg J F g c → g c < F → g c ≤ 79 * lessC g c ∧ ∃ l : List Int, IsPath N n dg J F g c l ∧ l.length ≤ lessC g c + 1 := by
  intro m
  induction m using Nat.strongRecOn with
  | ind m ih =>
  intro c hm hc hS hl
  have hn := lessC_b (g := g) hc
  have g0 := h0 c hc
  by_cases j : J c = 1
  · have := hj c hc j
    refine ⟨by omega, [c], ⟨rfl, hc, Or.inl ⟨j, rfl⟩⟩, by simp; omega⟩
  · obtain ⟨k, hk, a, b, d, e⟩ := hS j hl
    obtain ⟨k', hk', ⟨a', a2, b', e'⟩, hx⟩ := nxt_of (N := N) (n := n) (dg := dg) (J := J) (F := F) (g := g) (c := c) hk ⟨a, by omega, b, e⟩
    have hsb := sc_b (a := c) hr a' b'
    have g1 := h0 _ a'
    have hlt := lessC_lt (g := g) (a := c) a' (by omega)
    obtain ⟨q1, l, q2, q3⟩ := ih (g (nb c k')).toNat (by omega) (nb c k') rfl a' (hs _ a' b') (by omega)
    refine ⟨by omega, c :: l, ⟨rfl, hc, Or.inr ⟨j, hl, ?_⟩⟩, ?_⟩
    · rw [hx]; exact q2
    · rw [List.length_cons]; omega
section
variable {X : gX} {G : gH} {o : Nat} {N : Int → Int} {L : List (Int → Int)} {T : List Int} {M : Nat → Int → Int} {V : Nat → Int}
theorem m_nextOf {n c : Int} (hM : MR G o M V) (hr : RC (M 0)) (hn : 0 ≤ n ∧ n < 6) (hc : inC c) (hJ : ∀ c, inC c → bit (M 9 c)) (hd : bit (V 13)) (hg : ∀ c, inC c → 0 ≤ M 8 c ∧ M 8 c ≤ 1000000000) : Tri X 3 Y_X4_nextOf [.ref o, .int (iI n), .int (iI c)] 0 0 G (fun r G' => r = some (.int (iI (nxt (M 0) n (V 13) (M 9) 1000000000 (M 8) c))) ∧ G' = G) := by
  refine Tri.of (by decide +kernel) (Nat.le_of_ble_eq_true rfl) ?_
  generalize hQ : (fun (r : Option Value) G' => r = some (.int (iI (nxt (M 0) n (V 13) (M 9) 1000000000 (M 8) c))) ∧ G' = G) = Q
  have hc' := hc
  obtain ⟨hc0, hc1⟩ := hc'
  have gc := hg c hc
  have it : ∀ k, 0 ≤ k → k < 3 → (tk (M 0) n (V 13) (M 9) 1000000000 (M 8) c k → Q (some (.int (iI (nb c k)))) G) → (¬ tk (M 0) n (V 13) (M 9) 1000000000 (M 8) c k → Wp X Y_X4_nextOf 3 Q 0 0 G 2 [some (.ref o), some (.int (iI n)), some (.int (iI c)), some (.int (iI (k + 1))), none, none] []) → Wp X Y_X4_nextOf 3 Q 0 0 G 2 [some (.ref o), some (.int (iI n)), some (.int (iI c)), some (.int (iI k)), none, none] [] := by
    intro k k0 k1 yes no
    have skip : ¬ tk (M 0) n (V 13) (M 9) 1000000000 (M 8) c k → ∀ u v : Option Value, Wp X Y_X4_nextOf 3 Q 0 0 G 76 [some (.ref o), some (.int (iI n)), some (.int (iI c)), some (.int (iI k)), u, v] [] := by
      intro h u v
      refine excS rfl 2 8 _ _ _ _ _ _ ?_
      simp (disch := omega) only [exB, Nat.reduceAdd, Nat.reduceSub, Nat.reduceMul, Nat.reduceLeDiff, Nat.reduceLT, Nat.reduceEqDiff, Nat.reduceBEq, Int.reduceAdd, Int.reduceSub, Int.reduceMul, Int.reduceNeg, Int.reduceToNat, Int.reduceLE, Int.reduceLT, Int.reduceEq, Int.reduceGE, Int.reduceGT, ↓reduceIte, reduceCtorEq, gm_pe, gm_pn, gc_put, gl_put, gs_put, cd_X4_nextOf, iI_rt]
      exact (no h).wk' _ (by simp [wkL])
    refine excS rfl 76 8 _ _ _ _ _ _ ?_
    simp (disch := omega) only [exB, Nat.reduceAdd, Nat.reduceSub, Nat.reduceMul, Nat.reduceLeDiff, Nat.reduceLT, Nat.reduceEqDiff, Nat.reduceBEq, Int.reduceAdd, Int.reduceSub, Int.reduceMul, Int.reduceNeg, Int.reduceToNat, Int.reduceLE, Int.reduceLT, Int.reduceEq, Int.reduceGE, Int.reduceGT, ↓reduceIte, reduceCtorEq, gm_pe, gm_pn, gc_put, gl_put, gs_put, cd_X4_nextOf, iI_rt]
    refine ⟨fun h => absurd h (by omega), fun _ => ?_⟩
    refine gCall.of (m_neighbour hc ⟨k0, k1⟩) (by decide) (by first | omega | decide) (by first | omega | decide) ?_
    rintro r G' ⟨rfl, rfl⟩
    have hnb := nb_b (k := k) hc
    by_cases ht : nb c k = -1
    · rw [ht]
      refine excS rfl 76 12 _ _ _ _ _ _ ?_
      simp (disch := omega) only [exB, Nat.reduceAdd, Nat.reduceSub, Nat.reduceMul, Nat.reduceLeDiff, Nat.reduceLT, Nat.reduceEqDiff, Nat.reduceBEq, Int.reduceAdd, Int.reduceSub, Int.reduceMul, Int.reduceNeg, Int.reduceToNat, Int.reduceLE, Int.reduceLT, Int.reduceEq, Int.reduceGE, Int.reduceGT, ↓reduceIte, reduceCtorEq, gm_pe, gm_pn, gc_put, gl_put, gs_put, cd_X4_nextOf, iI_rt]
      exact skip (fun q => absurd q.1 (by rw [ht]; unfold inC; omega)) _ _
    have hti : inC (nb c k) := hnb.resolve_left ht
    have bT := hg _ hti
    obtain ⟨t0, t1⟩ := hti
    refine excS rfl 76 20 _ _ _ _ _ _ ?_
    simp (disch := omega) only [exB, Nat.reduceAdd, Nat.reduceSub, Nat.reduceMul, Nat.reduceLeDiff, Nat.reduceLT, Nat.reduceEqDiff, Nat.reduceBEq, Int.reduceAdd, Int.reduceSub, Int.reduceMul, Int.reduceNeg, Int.reduceToNat, Int.reduceLE, Int.reduceLT, Int.reduceEq, Int.reduceGE, Int.reduceGT, ↓reduceIte, reduceCtorEq, gm_pe, gm_pn, gc_put, gl_put, gs_put, cd_X4_nextOf, hM.f, iI_rt]
    refine ⟨fun q => absurd q (by omega), fun _ => ⟨by omega, by omega, fun j2 => ?_, fun j2 => ?_⟩⟩
    case refine_2 =>
      exact skip (fun q => by have := q.2.1; omega) _ _
    refine gCall.of (m_into (n := n) (a := c) (b := nb c k) hM hr hn hc ⟨t0, t1⟩ (hJ _ ⟨t0, t1⟩) hd) (by decide) (by first | omega | decide) (by first | omega | decide) ?_
    rintro r G' ⟨rfl, rfl⟩
    by_cases he : en (M 0) n (V 13) (M 9) (nb c k)
    · rw [if_pos he]
      have hs := sc_b (a := c) hr ⟨t0, t1⟩ he
      refine excS rfl 76 20 _ _ _ _ _ _ ?_
      simp (disch := omega) only [exB, Nat.reduceAdd, Nat.reduceSub, Nat.reduceMul, Nat.reduceLeDiff, Nat.reduceLT, Nat.reduceEqDiff, Nat.reduceBEq, Int.reduceAdd, Int.reduceSub, Int.reduceMul, Int.reduceNeg, Int.reduceToNat, Int.reduceLE, Int.reduceLT, Int.reduceEq, Int.reduceGE, Int.reduceGT, ↓reduceIte, reduceCtorEq, gm_pe, gm_pn, gc_put, gl_put, gs_put, cd_X4_nextOf, hM.f, iI_rt]
      exact ⟨fun q => absurd q (by omega), fun _ => ⟨t0, by omega, hc0, by omega, fun q => skip (fun z => q z.2.2.2) _ _, fun q => yes ⟨⟨t0, t1⟩, j2, he, Classical.not_not.mp q⟩⟩⟩
    · rw [if_neg he]
      refine excS rfl 76 8 _ _ _ _ _ _ ?_
      simp (disch := omega) only [exB, Nat.reduceAdd, Nat.reduceSub, Nat.reduceMul, Nat.reduceLeDiff, Nat.reduceLT, Nat.reduceEqDiff, Nat.reduceBEq, Int.reduceAdd, Int.reduceSub, Int.reduceMul, Int.reduceNeg, Int.reduceToNat, Int.reduceLE, Int.reduceLT, Int.reduceEq, Int.reduceGE, Int.reduceGT, ↓reduceIte, reduceCtorEq, gm_pe, gm_pn, gc_put, gl_put, gs_put, cd_X4_nextOf, hM.f, iI_rt]
      exact skip (fun q => he q.2.2.1) _ _
  refine excS rfl 2 2 _ _ _ _ _ _ ?_
  simp (disch := omega) only [exB, Nat.reduceAdd, Nat.reduceSub, Nat.reduceMul, Nat.reduceLeDiff, Nat.reduceLT, Nat.reduceEqDiff, Nat.reduceBEq, Int.reduceAdd, Int.reduceSub, Int.reduceMul, Int.reduceNeg, Int.reduceToNat, Int.reduceLE, Int.reduceLT, Int.reduceEq, Int.reduceGE, Int.reduceGT, ↓reduceIte, reduceCtorEq, gm_pe, gm_pn, gc_put, gl_put, gs_put, cd_X4_nextOf, iI_rt]
  unfold nxt at hQ
  refine Wp.wk' [some (.ref o), some (.int (iI n)), some (.int (iI c)), some (.int (iI 0)), none, none] ?_ (by simp [wkL])
  refine it 0 (by decide) (by decide) (fun h => ?_) (fun h0 => it 1 (by decide) (by decide) (fun h => ?_) (fun h1 => it 2 (by decide) (by decide) (fun h => ?_) (fun h2 => ?_)))
  · rw [if_pos h] at hQ; subst hQ; exact ⟨rfl, rfl⟩
  · rw [if_neg h0, if_pos h] at hQ; subst hQ; exact ⟨rfl, rfl⟩
  · rw [if_neg h0, if_neg h1, if_pos h] at hQ; subst hQ; exact ⟨rfl, rfl⟩
  · rw [if_neg h0, if_neg h1, if_neg h2] at hQ; subst hQ
    refine exS rfl 8 _ _ _ _ _ _ ?_
    simp (disch := omega) only [exB, Nat.reduceAdd, Nat.reduceSub, Nat.reduceMul, Nat.reduceLeDiff, Nat.reduceLT, Nat.reduceEqDiff, Nat.reduceBEq, Int.reduceAdd, Int.reduceSub, Int.reduceMul, Int.reduceNeg, Int.reduceToNat, Int.reduceLE, Int.reduceLT, Int.reduceEq, Int.reduceGE, Int.reduceGT, ↓reduceIte, reduceCtorEq, gm_pe, gm_pn, gc_put, gl_put, gs_put, cd_X4_nextOf, iI_rt]
end
/-- both cells of a place are joined -/
def j2 (J : Int → Int) (q : Int) : Int → Int := uN (uN J q 1) (81 + q) 1
def spj (J : Int → Int) (q : Int) : Int → Int := if 0 ≤ q ∧ (J q = 1 ∨ J (81 + q) = 1) then j2 J q else J
def foldJ (J : Int → Int) : List Int → Int → Int
  | [] => J
  | x :: t => foldJ (uN J x 1) t
/-- what is joined behind a path -/
def joinP (N : Int → Int) (n : Int) (J : Int → Int) (l : List Int) : Int → Int := spj (spj (spj (foldJ J l) (N (169 + 9 * n + 0))) (N (169 + 9 * n + 1))) (N (169 + 9 * n + 2))
def wrL (r : Int → Int) (m : Int) : List Int → Int → Int
  | [] => r
  | x :: t => wrL (uN r m x) (m + 1) t
abbrev bits (J : Int → Int) : Prop := ∀ c, inC c → bit (J c)
theorem bits_u {J : Int → Int} (h : bits J) (z : Int) : bits (uN J z 1) := fun c hc => by
  unfold uN; split
  · exact Or.inr rfl
  · exact h c hc
theorem bits_spj {J : Int → Int} (h : bits J) (q : Int) : bits (spj J q) := by
  unfold spj; split
  · exact bits_u (bits_u h _) _
  · exact h
theorem bits_fold : ∀ (l : List Int) (J : Int → Int), bits J → bits (foldJ J l)
  | [], _, h => h
  | _ :: t, _, h => bits_fold t _ (bits_u h _)
theorem bits_join {N : Int → Int} {n : Int} {J : Int → Int} {l : List Int} (h : bits J) : bits (joinP N n J l) := bits_spj (bits_spj (bits_spj (bits_fold l J h) _) _) _
theorem foldJ_get : ∀ (l : List Int) (J : Int → Int) (c : Int), foldJ J l c = if c ∈ l then 1 else J c
  | [], J, c => by simp [foldJ]
  | x :: t, J, c => by
    show foldJ (uN J x 1) t c = _
    rw [foldJ_get t]
    unfold uN
    by_cases h1 : c ∈ t
    · simp [h1]
    · by_cases h2 : c = x
      · simp [h1, h2]
      · simp [h1, h2]
theorem wrL_off : ∀ (l : List Int) (r : Int → Int) (m j : Int), j < m → wrL r m l j = r j
  | [], _, _, _, _ => rfl
  | x :: t, r, m, j, h => by
    show wrL (uN r m x) (m + 1) t j = r j
    rw [wrL_off t _ _ _ (by omega)]
    unfold uN; rw [if_neg (by omega)]
theorem wrL_get : ∀ (l : List Int) (r : Int → Int) (m : Int) (i : Nat) (x : Int), l[i]? = some x → wrL r m l (m + i) = x
  | [], _, _, i, x, h => by simp at h
  | y :: t, r, m, 0, x, h => by
    simp only [List.getElem?_cons_zero, Option.some.injEq] at h
    show wrL (uN r m y) (m + 1) t (m + 0) = x
    rw [wrL_off t _ _ _ (by omega)]
    unfold uN; rw [if_pos (by omega)]; exact h
  | y :: t, r, m, i + 1, x, h => by
    simp only [List.getElem?_cons_succ] at h
    have := wrL_get t (uN r m y) (m + 1) i x h
    show wrL (uN r m y) (m + 1) t (m + (i + 1 : Nat)) = x
    rw [← this]
    congr 1
    omega
theorem uV_uV {V : Nat → Int} {f : Nat} {a b : Int} : uV (uV V f a) f b = uV V f b := by
  funext g; simp only [uV]; split <;> rfl
theorem uV_s {V : Nat → Int} {f : Nat} {a : Int} : uV V f a f = a := by simp [uV]
theorem uV_n {V : Nat → Int} {f g : Nat} {a : Int} (h : g ≠ f) : uV V f a g = V g := by simp [uV, h]
theorem uV_id {V : Nat → Int} {f : Nat} : uV V f (V f) = V := by
  funext g; simp only [uV]; split
  · next h => rw [h]
  · rfl
theorem IsPath.all {N : Int → Int} {n dg : Int} {J : Int → Int} {F : Int} {g : Int → Int} : ∀ (l : List Int) (c : Int), IsPath N n dg J F g c l → ∀ x ∈ l, inC x
  | [], _, h, _, _ => h.elim
  | y :: t, c, h, x, hx => by
    obtain ⟨e, hc, h⟩ := h
    rcases List.mem_cons.mp hx with q | q
    · rw [q, e]; exact hc
    · rcases h with ⟨-, h⟩ | ⟨-, -, h⟩
      · rw [h] at q; cases q
      · exact IsPath.all t _ h x q
section
variable {X : gX} {G : gH} {o : Nat} {N : Int → Int} {L : List (Int → Int)} {T : List Int} {M : Nat → Int → Int} {V : Nat → Int}
theorem m_joinsPin {n w q : Int} (hM : MR G o M V) (hn : 0 ≤ n ∧ n < 6) (hw : 0 ≤ w ∧ w < 3) (he : M 0 (169 + 9 * n + w) = q) (hq : 0 ≤ q ∧ q ≤ 80) : Tri X 2 Y_X4_joinsPin [.ref o, .int (iI n), .int (iI w)] 0 0 G (fun r G' => r = none ∧ MK G G' o ∧ MR G' o (setF M 9 (j2 (M 9) q)) V) := by
  refine Tri.of (by decide +kernel) (Nat.le_of_ble_eq_true rfl) ?_
  refine exS rfl 6 _ _ _ _ _ _ ?_
  simp (disch := omega) only [exB, Nat.reduceAdd, Nat.reduceSub, Nat.reduceMul, Nat.reduceLeDiff, Nat.reduceLT, Nat.reduceEqDiff, Nat.reduceBEq, Int.reduceAdd, Int.reduceSub, Int.reduceMul, Int.reduceNeg, Int.reduceToNat, Int.reduceLE, Int.reduceLT, Int.reduceEq, Int.reduceGE, Int.reduceGT, ↓reduceIte, reduceCtorEq, gm_pe, gm_pn, gc_put, gl_put, gs_put, cd_X4_joinsPin, hM.f, iI_rt]
  refine gCall.of (m_of hM (n := n) (w := w) (by omega)) (by decide) (by first | omega | decide) (by first | omega | decide) ?_
  rintro r G' ⟨rfl, rfl⟩
  rw [he]
  refine exS rfl 20 _ _ _ _ _ _ ?_
  simp (disch := omega) only [exB, Nat.reduceAdd, Nat.reduceSub, Nat.reduceMul, Nat.reduceLeDiff, Nat.reduceLT, Nat.reduceEqDiff, Nat.reduceBEq, Int.reduceAdd, Int.reduceSub, Int.reduceMul, Int.reduceNeg, Int.reduceToNat, Int.reduceLE, Int.reduceLT, Int.reduceEq, Int.reduceGE, Int.reduceGT, ↓reduceIte, reduceCtorEq, gm_pe, gm_pn, gc_put, gl_put, gs_put, cd_X4_joinsPin, hM.f, iI_rt]
  refine ⟨by omega, by omega, by omega, by omega, (MK.refl.put (by omega)).put (by omega), ?_⟩
  have h1 := (hM.putA 9 (z := q) (v := 1) (by decide) (by omega) (by decide)).putA 9 (z := 81 + q) (v := 1) (by decide) (by omega) (by decide)
  have e : uM (uM M 9 q 1) 9 (81 + q) 1 = setF M 9 (j2 (M 9) q) := by
    rw [← setF_id (M := M) (f := 9), uM_set, uM_set, setF_id]
    rfl
  rw [e] at h1
  exact h1
end
