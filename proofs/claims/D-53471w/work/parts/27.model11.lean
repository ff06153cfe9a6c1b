/-! THE MODEL 11: what a route goes through, what is due -/
set_option maxRecDepth 100000
set_option maxHeartbeats 4000000
theorem RouteR.b {N : Int → Int} {n dg : Int} {l : List Int} {c : Int} (h1 : 0 ≤ N (169 + 9 * n + 1) ∧ N (169 + 9 * n + 1) ≤ 80) (h2 : N (169 + 9 * n + 2) ≤ 80) (h : RouteR N n dg (some (l, c))) : l.length ≤ 324 ∧ (0 ≤ c ∧ c ≤ 25596) ∧ ∀ x ∈ l, inC x := by
  obtain ⟨g1, r1, hp, hm⟩ := h
  match r1, hp, hm with
  | some (l1, c1), hp, hm =>
    have b1 := hp.b h1
    have a1 : ∀ x ∈ l1, inC x := by
      obtain ⟨q1, q2⟩ := hp
      rcases q2 with ⟨-, q2⟩ | ⟨q2, l', q3, q4, q5⟩
      · cases q2
      · obtain ⟨rfl, rfl⟩ : l1 = l' ∧ c1 = _ := by simpa using q5
        exact IsPath.all _ _ q3
    rcases hm with ⟨-, e⟩ | ⟨h0, g2, r2, hp2, hm2⟩
    · obtain ⟨rfl, rfl⟩ : l = l1 ∧ c = c1 := by simpa using e
      exact ⟨by omega, by omega, a1⟩
    · match r2, hp2, hm2 with
      | some (l2, c2), hp2, e =>
        have b2 := hp2.b ⟨h0, h2⟩
        obtain ⟨rfl, rfl⟩ : l = l1 ++ l2 ∧ c = c1 + c2 := by simpa using e
        refine ⟨by rw [List.length_append]; omega, by omega, fun x hx => ?_⟩
        rcases List.mem_append.mp hx with q | q
        · exact a1 x q
        · obtain ⟨q1, q2⟩ := hp2
          rcases q2 with ⟨-, q2⟩ | ⟨q2, l', q3, q4, q5⟩
          · cases q2
          · obtain ⟨rfl, rfl⟩ : l2 = l' ∧ c2 = _ := by simpa using q5
            exact IsPath.all _ _ q3 x q
/-- how many cells of a net's wire a route goes through; what is due to it; to all -/
def thr (N : Int → Int) (l : List Int) (m : Int) : Int := sumI (fun c => if c ∈ l ∧ N (7 + c) = 1 + m then 1 else 0) 162
def dueN (N : Int → Int) (l : List Int) (m : Int) : Int := thr N l m * (N 1 + N (169 + 9 * m + 3))
def duesN (N : Int → Int) (l : List Int) : Int := sumI (dueN N l) (N 5).toNat
def vicS (f : Int → Int) : Nat → Int
  | 0 => 0
  | k + 1 => vicS f k + if 0 < f k then 2 ^ k else 0
def vicN (N : Int → Int) (l : List Int) : Int := vicS (thr N l) (N 5).toNat
theorem thr_b {N : Int → Int} {l : List Int} {m : Int} : 0 ≤ thr N l m ∧ thr N l m ≤ 162 := sumI_b (fun i => by split <;> decide) 162
def onC (f : Int → Int) (c : Int) : Nat → Int
  | 0 => 0
  | k + 1 => if onC f c k = 1 ∨ f k = c then 1 else 0
theorem onC_b {f : Int → Int} {c : Int} : ∀ k, bit (onC f c k)
  | 0 => Or.inl rfl
  | k + 1 => by
    show bit (if onC f c k = 1 ∨ f k = c then 1 else 0)
    split
    · exact Or.inr rfl
    · exact Or.inl rfl
theorem onC_mem {f : Int → Int} {c : Int} : ∀ (k : Nat) (l : List Int), l.length = k → (∀ (i : Nat) (x : Int), l[i]? = some x → f i = x) → onC f c k = if c ∈ l then 1 else 0 := by
  intro k
  induction k with
  | zero => intro l hl _; rw [List.eq_nil_of_length_eq_zero hl]; simp [onC]
  | succ k ih =>
    intro l hl hg
    have hne : l ≠ [] := by intro q; rw [q] at hl; simp at hl
    have e := List.dropLast_concat_getLast hne
    have hd : l.dropLast.length = k := by rw [List.length_dropLast]; omega
    have h1 := ih l.dropLast hd (fun i x hx => hg i x (by rw [← e, List.getElem?_append_left (List.getElem?_eq_some_iff.mp hx).1]; exact hx))
    have h2 := hg k (l.getLast hne) (by
      have : (l.dropLast ++ [l.getLast hne])[k]? = some (l.getLast hne) := by rw [List.getElem?_append_right (by omega), hd]; simp
      rw [e] at this; exact this)
    have hm : c ∈ l ↔ (c ∈ l.dropLast ∨ c = l.getLast hne) := by
      conv => lhs; rw [← e]
      simp
    unfold onC
    rw [h1, h2]
    by_cases q1 : c ∈ l.dropLast
    · rw [if_pos q1, if_pos (Or.inl rfl), if_pos (hm.mpr (Or.inl q1))]
    · rw [if_neg q1]
      by_cases q2 : c = l.getLast hne
      · rw [if_pos (Or.inr q2.symm), if_pos (hm.mpr (Or.inr q2))]
      · rw [if_neg (fun z => z.elim (by decide) (fun z => q2 z.symm)), if_neg (fun z => (hm.mp z).elim q1 q2)]
/-- the model's row of a route -/
def RtOK (M : Nat → Int → Int) (V : Nat → Int) (l : List Int) : Prop := V 11 = l.length ∧ l.length ≤ 324 ∧ (∀ x ∈ l, inC x) ∧ ∀ (i : Nat) (x : Int), l[i]? = some x → M 10 i = x
section
variable {X : gX} {G : gH} {o : Nat} {N : Int → Int} {L : List (Int → Int)} {T : List Int} {M : Nat → Int → Int} {V : Nat → Int} {l : List Int}
theorem m_through {m : Int} (hM : MR G o M V) (hl : RtOK M V l) (hm : 0 ≤ m ∧ m < 100) : Tri X 1 Y_X4_through [.ref o, .int (iI m)] 0 0 G (fun r G' => r = some (.int (iI (thr (M 0) l m))) ∧ G' = G) := by
  obtain ⟨hl1, hl2, hl3, hl4⟩ := hl
  refine Tri.of (by decide +kernel) (Nat.le_of_ble_eq_true rfl) ?_
  generalize hQ : (fun (r : Option Value) G' => r = some (.int (iI (thr (M 0) l m))) ∧ G' = G) = Q
  refine excS rfl 4 4 _ _ _ _ _ _ ?_
  simp (disch := omega) only [exB, Nat.reduceAdd, Nat.reduceSub, Nat.reduceMul, Nat.reduceLeDiff, Nat.reduceLT, Nat.reduceEqDiff, Nat.reduceBEq, Int.reduceAdd, Int.reduceSub, Int.reduceMul, Int.reduceNeg, Int.reduceToNat, Int.reduceLE, Int.reduceLT, Int.reduceEq, Int.reduceGE, Int.reduceGT, ↓reduceIte, reduceCtorEq, gm_pe, gm_pn, gc_put, gl_put, gs_put, cd_X4_through]
  refine Wp.wk' [some (.ref o), some (.int (iI m)), some (.int (iI (sumI (fun c => if c ∈ l ∧ M 0 (7 + c) = 1 + m then 1 else 0) (0 : Int).toNat))), some (.int (iI 0)), none, none] ?_ (by simp [wkL, sumI])
  refine up0 (W := fun i => Wp X Y_X4_through 1 Q 0 0 G 4 [some (.ref o), some (.int (iI m)), some (.int (iI (sumI (fun c => if c ∈ l ∧ M 0 (7 + c) = 1 + m then 1 else 0) i.toNat))), some (.int (iI i)), none, none] []) (hi := 162) 0 ?_ ?_ 0 (by decide) (by decide)
  case refine_2 =>
    refine exS rfl 6 _ _ _ _ _ _ ?_
    subst hQ
    simp (disch := omega) only [exB, Nat.reduceAdd, Nat.reduceSub, Nat.reduceMul, Nat.reduceLeDiff, Nat.reduceLT, Nat.reduceEqDiff, Nat.reduceBEq, Int.reduceAdd, Int.reduceSub, Int.reduceMul, Int.reduceNeg, Int.reduceToNat, Int.reduceLE, Int.reduceLT, Int.reduceEq, Int.reduceGE, Int.reduceGT, ↓reduceIte, reduceCtorEq, gm_pe, gm_pn, gc_put, gl_put, gs_put, cd_X4_through, iI_rt]
    trivial
  intro c c0 c1 ih
  have bs := sumI_b (f := fun c => if c ∈ l ∧ M 0 (7 + c) = 1 + m then 1 else 0) (fun i => by split <;> decide) c.toNat
  have b1 := hM.bA (z := 7 + c) (by omega) (by omega)
  rw [sumI_s c0] at ih
  generalize sumI (fun c => if c ∈ l ∧ M 0 (7 + c) = 1 + m then 1 else 0) c.toNat = s at ih bs ⊢
  refine excS rfl 17 10 _ _ _ _ _ _ ?_
  simp (disch := omega) only [exB, Nat.reduceAdd, Nat.reduceSub, Nat.reduceMul, Nat.reduceLeDiff, Nat.reduceLT, Nat.reduceEqDiff, Nat.reduceBEq, Int.reduceAdd, Int.reduceSub, Int.reduceMul, Int.reduceNeg, Int.reduceToNat, Int.reduceLE, Int.reduceLT, Int.reduceEq, Int.reduceGE, Int.reduceGT, ↓reduceIte, reduceCtorEq, gm_pe, gm_pn, gc_put, gl_put, gs_put, cd_X4_through, iI_rt]
  refine ⟨fun h => absurd h (by omega), fun _ => ?_⟩
  refine up0 (W := fun k => Wp X Y_X4_through 1 Q 0 0 G 17 [some (.ref o), some (.int (iI m)), some (.int (iI s)), some (.int (iI c)), some (.int (iI (onC (M 10) c k.toNat))), some (.int (iI k))] []) (hi := l.length) 0 ?_ ?_ 0 (by decide) (by omega)
  · intro k k0 k1 ihk
    have ob := onC_b (f := M 10) (c := c) k.toNat
    have e : onC (M 10) c (k + 1).toNat = if onC (M 10) c k.toNat = 1 ∨ M 10 k = c then 1 else 0 := by
      rw [show (k + 1).toNat = k.toNat + 1 from by omega]
      show (if onC (M 10) c k.toNat = 1 ∨ M 10 (k.toNat : Int) = c then 1 else 0) = _
      rw [show ((k.toNat : Nat) : Int) = k from by omega]
    rw [e] at ihk
    have hx := hl4 k.toNat (l[k.toNat]'(by omega)) (List.getElem?_eq_getElem _)
    rw [show ((k.toNat : Nat) : Int) = k from by omega] at hx
    have hxc := hl3 (l[k.toNat]'(by omega)) (List.getElem_mem _)
    rw [← hx] at hxc
    unfold inC at hxc
    generalize onC (M 10) c k.toNat = b at ob ihk ⊢
    refine excS rfl 17 20 _ _ _ _ _ _ ?_
    simp (disch := omega) only [exB, Nat.reduceAdd, Nat.reduceSub, Nat.reduceMul, Nat.reduceLeDiff, Nat.reduceLT, Nat.reduceEqDiff, Nat.reduceBEq, Int.reduceAdd, Int.reduceSub, Int.reduceMul, Int.reduceNeg, Int.reduceToNat, Int.reduceLE, Int.reduceLT, Int.reduceEq, Int.reduceGE, Int.reduceGT, ↓reduceIte, reduceCtorEq, gm_pe, gm_pn, gc_put, gl_put, gs_put, cd_X4_through, hM.f, iI_rt, hl1]
    refine ⟨fun z => absurd z (by omega), fun _ => ⟨fun z => ?_, fun z => ⟨k0, by omega, fun z2 => ?_, fun z2 => ?_⟩⟩⟩
    · rw [if_pos (Or.inl (ob.resolve_left z))] at ihk; exact ihk
    · rw [if_neg (fun q => q.elim (fun q => by omega) z2)] at ihk; exact ihk
    · rw [if_pos (Or.inr (Classical.not_not.mp z2))] at ihk; exact ihk
  · have e := onC_mem (f := M 10) (c := c) l.length l rfl hl4
    rw [show ((l.length : Int)).toNat = l.length from by omega, e]
    have fin : ∀ s' u v, s' = (s + if c ∈ l ∧ M 0 (7 + c) = 1 + m then 1 else 0) → Wp X Y_X4_through 1 Q 0 0 G 4 [some (.ref o), some (.int (iI m)), some (.int (iI s')), some (.int (iI (c + 1))), u, v] [] := fun s' u v h => by rw [h]; exact ih.wk' _ (by simp [wkL])
    refine excS rfl 4 30 _ _ _ _ _ _ ?_
    simp (disch := omega) only [exB, Nat.reduceAdd, Nat.reduceSub, Nat.reduceMul, Nat.reduceLeDiff, Nat.reduceLT, Nat.reduceEqDiff, Nat.reduceBEq, Int.reduceAdd, Int.reduceSub, Int.reduceMul, Int.reduceNeg, Int.reduceToNat, Int.reduceLE, Int.reduceLT, Int.reduceEq, Int.reduceGE, Int.reduceGT, ↓reduceIte, reduceCtorEq, gm_pe, gm_pn, gc_put, gl_put, gs_put, cd_X4_through, hM.f, iI_rt, hl1]
    refine ⟨fun _ => ⟨fun z => fin _ _ _ ?_, fun z => ⟨by omega, by omega, fun z2 => fin _ _ _ ?_, fun z2 => fin _ _ _ ?_⟩⟩, fun z => absurd (Int.le_refl _) z⟩
    · rw [if_neg (fun q => by rw [if_pos q.1] at z; cases z)]
    · rw [if_neg (fun q => z2 q.2)]
    · have : c ∈ l := Classical.byContradiction (fun q => z (if_neg q))
      rw [if_pos ⟨this, Classical.not_not.mp z2⟩]
end
