/-! LINKED HASH MAPS: on the way of a put -/
set_option maxRecDepth 100000
set_option maxHeartbeats 2000000
/-- as LM, with a size field that may lag behind, and no bound on it -/
def LMi (G : gH) (S : Nat → Prop) (m : Nat) (c : Int) (E : List lE) (sz : Int) : Prop :=
  (S m ∧ m < gs G ∧ gc G m = 13) ∧ gm G m 2 = .int (iI sz) ∧ (∃ mc, gm G m 3 = .int mc) ∧ gm G m 5 = .float 0x3F400000 ∧ KS G m ∧
  gm G m 10 = .int (iI 0) ∧ gm G m 11 = .int (iI 0) ∧ (∀ e ∈ E, nodOK G S e) ∧ (E.map ek).Nodup ∧ chn G 5 (gm G m 8) (E.map ea) ∧ chn G 4 (gm G m 9) (E.map ea).reverse ∧
  isCap c ∧ gm G m 4 = .int (iI (c / 4 * 3)) ∧ ∃ tab, gm G m 0 = .ref tab ∧ S tab ∧ tab < gs G ∧ gc G tab = 105 ∧ gl G tab = c.toNat ∧ ∀ b : Int, 0 ≤ b → b < c → chn G 3 (gm G tab b.toNat) ((bkt E c b).map ea)
theorem LM.i {G : gH} {S : Nat → Prop} {m : Nat} {c : Int} {E : List lE} (h : LM G S m c E) (hc : c ≠ 0) : LMi G S m c E E.length := by
  obtain ⟨a1, a4, a5, a6, a7, a8, a9, b1, b2, b3, b4, b5⟩ := h
  rcases b5 with ⟨h0, -⟩ | ⟨q1, q2, q3, q4⟩
  · exact absurd h0 hc
  · exact ⟨a1, a4, a5, a6, a7, a8, a9, b1, b2, b3, b4, q1, q2, q4⟩
theorem LMi.lm {G : gH} {S : Nat → Prop} {m : Nat} {c : Int} {E : List lE} (h : LMi G S m c E E.length) (hb : (E.length : Int) ≤ c / 4 * 3) : LM G S m c E := by
  obtain ⟨a1, a4, a5, a6, a7, a8, a9, b1, b2, b3, b4, q1, q2, q4⟩ := h
  exact ⟨a1, a4, a5, a6, a7, a8, a9, b1, b2, b3, b4, Or.inr ⟨q1, q2, hb, q4⟩⟩
theorem nodOK.n3 {G : gH} {S : Nat → Prop} {e : lE} (h : nodOK G S e) : nod3 G e := by
  obtain ⟨h1, h2, h3, h4, ⟨kc, h5, h7⟩, -⟩ := h
  exact ⟨h3, h4, h7.2.2.2⟩
theorem nod_nd {G : gH} {E : List lE} (hn : ∀ e ∈ E, nod3 G e) (hk : (E.map ek).Nodup) : (E.map ea).Nodup := by
  induction E with
  | nil => exact List.nodup_nil
  | cons e t ih =>
    rw [List.map_cons, List.nodup_cons] at hk ⊢
    refine ⟨fun h => ?_, ih (fun e' he' => hn e' (List.mem_cons_of_mem _ he')) hk.2⟩
    obtain ⟨e', he', hq⟩ := List.mem_map.mp h
    exact hk.1 (List.mem_map.mpr ⟨e', he', nod_key (hn e' (List.mem_cons_of_mem _ he')) (hn e List.mem_cons_self) hq⟩)
/-- numbers without doubles below n are not more than n -/
theorem pigeon : ∀ (n : Nat) (l : List Int), l.Nodup → (∀ x ∈ l, 0 ≤ x ∧ x < n) → l.length ≤ n
  | 0, l, _, h => by
    cases l with
    | nil => simp
    | cons a t => have := h a List.mem_cons_self; omega
  | n + 1, l, hd, h => by
    have h1 : (l.filter (fun x => !decide (x = (n : Int)))).length ≤ n := by
      refine pigeon n _ (hd.sublist List.filter_sublist) (fun x hx => ?_)
      obtain ⟨q1, q2⟩ := List.mem_filter.mp hx
      have := h x q1
      simp only [Bool.not_eq_true', decide_eq_false_iff_not] at q2
      omega
    have h2 : (l.filter (fun x => decide (x = (n : Int)))).length ≤ 1 := by
      have hnd : (l.filter (fun x => decide (x = (n : Int)))).Nodup := hd.sublist List.filter_sublist
      have hall : ∀ x ∈ l.filter (fun x => decide (x = (n : Int))), x = (n : Int) := fun x hx => by simpa using (List.mem_filter.mp hx).2
      generalize l.filter (fun x => decide (x = (n : Int))) = r at hnd hall
      match r, hnd, hall with
      | [], _, _ => simp
      | [a], _, _ => simp
      | a :: b :: t, hnd, hall =>
        have e1 := hall a List.mem_cons_self
        have e2 := hall b (by simp)
        rw [e1, e2] at hnd
        simp at hnd
    have h3 := List.length_eq_countP_add_countP (l := l) (fun x => decide (x = (n : Int)))
    rw [List.countP_eq_length_filter, List.countP_eq_length_filter] at h3
    have h4 : (l.filter (fun x => decide ¬(decide (x = (n : Int)) = true))) = l.filter (fun x => !decide (x = (n : Int))) := by
      refine List.filter_congr (fun x _ => ?_)
      by_cases h : x = (n : Int) <;> simp [h]
    rw [h4] at h3
    omega
theorem keys_len {G : gH} {E : List lE} (hn : ∀ e ∈ E, nod3 G e) (hk : (E.map ek).Nodup) : E.length ≤ 162 := by
  have := pigeon 162 (E.map ek) hk (fun x hx => by
    obtain ⟨e, he, rfl⟩ := List.mem_map.mp hx
    have := (hn e he).2.2
    exact ⟨this.1, this.2⟩)
  rwa [List.length_map] at this
/-- a bucket of a greater table is short -/
theorem bkt_len {G : gH} {E : List lE} {c b : Int} (hc : isCap c) (h16 : c ≠ 16) (hn : ∀ e ∈ E, nod3 G e) (hk : (E.map ek).Nodup) : (bkt E c b).length ≤ 6 := by
  have h1 : ((bkt E c b).map (fun e => ek e / c)).Nodup := by
    have key : ∀ l : List lE, (∀ e ∈ l, ek e % c = b) → (l.map ek).Nodup → (l.map (fun e => ek e / c)).Nodup := by
      intro l
      induction l with
      | nil => intro _ _; exact List.nodup_nil
      | cons e t ih =>
        intro hl hk
        rw [List.map_cons, List.nodup_cons] at hk ⊢
        refine ⟨fun h => ?_, ih (fun e' he' => hl e' (List.mem_cons_of_mem _ he')) hk.2⟩
        obtain ⟨e', he', hq⟩ := List.mem_map.mp h
        refine hk.1 (List.mem_map.mpr ⟨e', he', ?_⟩)
        have q1 := hl e' (List.mem_cons_of_mem _ he')
        have q2 := hl e List.mem_cons_self
        rcases hc with rfl | rfl | rfl | rfl | rfl <;> omega
    refine key _ (fun e he => by simpa using (List.mem_filter.mp he).2) (hk.sublist (List.Sublist.map ek List.filter_sublist))
  have := pigeon 6 _ h1 (fun x hx => by
    obtain ⟨e, he, rfl⟩ := List.mem_map.mp hx
    have := (hn e (List.mem_filter.mp he).1).2.2
    rcases hc with rfl | rfl | rfl | rfl | rfl
    · exact absurd rfl h16
    all_goals omega)
  rwa [List.length_map] at this
theorem LMi.fr {G G' : gH} {S T S' : Nat → Prop} {m : Nat} {c sz : Int} {E : List lE} (h : LMi G S m c E sz) (hF : Fr T G G') (hd : ∀ a, a < gs G → S a → ¬ T a) (hs : ∀ a, a < gs G → S a → S' a) : LMi G' S' m c E sz := by
  obtain ⟨⟨a1, a2, a3⟩, a4, a5, a6, a7, a8, a9, b1, b2, b3, b4, q1, q2, tab, q4, q5, q6, q7, q8, q9⟩ := h
  have hz := hF.1
  have k2 := hF.m a2 (hd _ a2 a1)
  have hk : ∀ a, a < gs G → (S a ∨ frz (gc G a)) → gc G' a = gc G a ∧ gl G' a = gl G a ∧ gm G' a = gm G a := fun a ha q => ⟨hF.c ha, hF.l ha, q.elim (fun q => hF.m ha (hd a ha q)) (fun q => hF.z ha q)⟩
  have hnod : ∀ a ∈ E.map ea, gm G' a = gm G a := fun a ha => by
    obtain ⟨e, he, rfl⟩ := List.mem_map.mp ha
    exact (hk _ (b1 e he).2.1 (Or.inl (b1 e he).1)).2.2
  refine ⟨⟨hs _ a2 a1, by omega, by rw [hF.c a2]; exact a3⟩, by rw [k2]; exact a4, by rw [k2]; exact a5, by rw [k2]; exact a6, ?_, by rw [k2]; exact a8, by rw [k2]; exact a9, fun e he => (b1 e he).keep hz hs hk, b2, ?_, ?_, q1, by rw [k2]; exact q2, tab, by rw [k2]; exact q4, hs _ q6 q5, Nat.lt_of_lt_of_le q6 hz, by rw [hF.c q6]; exact q7, by rw [hF.l q6]; exact q8, fun b b0 b1' => ?_⟩
  · unfold KS
    rw [k2]
    refine a7.imp id ?_
    rintro ⟨ks, q1, q3, q4, q5, q6⟩
    obtain ⟨k3, -, k4⟩ := hk ks q3 (Or.inr (Or.inr q4))
    exact ⟨ks, q1, Nat.lt_of_lt_of_le q3 hz, by rw [k3]; exact q4, by rw [k4]; exact q5, by rw [k4]; exact q6⟩
  · rw [k2]; exact chn.congr _ _ (fun a ha => by rw [hnod a ha]) b3
  · rw [k2]; exact chn.congr _ _ (fun a ha => by rw [hnod a (List.mem_reverse.mp ha)]) b4
  · rw [hF.m q6 (hd _ q6 q5)]
    refine chn.congr _ _ (fun a ha => ?_) (q9 b b0 b1')
    obtain ⟨e, he, rfl⟩ := List.mem_map.mp ha
    rw [hnod _ (List.mem_map.mpr ⟨e, (List.mem_filter.mp he).1, rfl⟩)]
/-- what resize leaves of a map -/
theorem LMi.rz {G G' : gH} {S : Nat → Prop} {m : Nat} {c c' sz : Int} {E : List lE} (h : LMi G S m c E sz) (hc' : isCap c') (hR : RZ G G' m c' E) : LMi G' (xt S G G') m c' E sz ∧ Fr S G G' := by
  obtain ⟨⟨a1, a2, a3⟩, a4, a5, a6, a7, a8, a9, b1, b2, b3, b4, q1, q2, tab, q4, q5, q6, q7, q8, q9⟩ := h
  obtain ⟨r1, r2, r3, r4, r5, r6, r7, r8, r9⟩ := hR
  have hz : gs G ≤ gs G' := by omega
  have hlt : gs G < gs G' := by omega
  have nd := nod_nd (fun e he => (b1 e he).n3) b2
  have hnm : ∀ a ∈ E.map ea, a < gs G ∧ a ≠ m ∧ gm G m 0 ≠ .ref a := fun a ha => by
    obtain ⟨e, he, rfl⟩ := List.mem_map.mp ha
    have n := b1 e he
    exact ⟨n.2.1, ne_tag n.2.2.1 a3 (by decide), fun q => by rw [q4] at q; exact ne_tag q7 n.2.2.1 (by decide) (Value.ref.inj q)⟩
  have nod : ∀ a ∈ E.map ea, ∀ j, j ≠ 3 → gm G' a j = gm G a j := fun a ha j hj => r8 a (hnm a ha).1 (hnm a ha).2.1 (hnm a ha).2.2 j (Or.inr hj)
  have cel : ∀ a, a < gs G → frz (gc G a) → gm G' a = gm G a := fun a ha hz => by
    funext j
    refine r8 a ha (fun q => ?_) (fun q => ?_) j (Or.inl (fun q => ?_))
    · rw [q, a3] at hz; revert hz; decide
    · rw [q4] at q; rw [← Value.ref.inj q, q7] at hz; revert hz; decide
    · obtain ⟨e, he, rfl⟩ := List.mem_map.mp q
      rw [(b1 e he).2.2.1] at hz; revert hz; decide
  refine ⟨⟨⟨Or.inl ⟨a1, a2⟩, by omega, by rw [(r2 m a2).1]; exact a3⟩, by rw [r7 2 (by decide) (by decide)]; exact a4, by rw [r7 3 (by decide) (by decide)]; exact a5, by rw [r7 5 (by decide) (by decide)]; exact a6, ?_, by rw [r7 10 (by decide) (by decide)]; exact a8, by rw [r7 11 (by decide) (by decide)]; exact a9, fun e he => ?_, b2, ?_, ?_, hc', r6, gs G, r5, Or.inr ⟨Nat.le_refl _, hlt⟩, hlt, r3, r4, r9⟩, ⟨hz, r2, fun a ha hn => ?_⟩⟩
  · unfold KS
    rw [r7 6 (by decide) (by decide)]
    refine a7.imp id ?_
    rintro ⟨ks, q1, q3, q4, q5, q6⟩
    have e := cel ks q3 (Or.inr q4)
    exact ⟨ks, q1, Nat.lt_of_lt_of_le q3 hz, by rw [(r2 ks q3).1]; exact q4, by rw [e]; exact q5, by rw [e]; exact q6⟩
  · obtain ⟨n1, n2, n3, n4, ⟨kc, n5, n7⟩, n8, n9⟩ := b1 e he
    have hE := nod (ea e) (List.mem_map.mpr ⟨e, he, rfl⟩)
    exact ⟨Or.inl ⟨n1, n2⟩, by omega, by rw [(r2 _ n2).1]; exact n3, by rw [hE 0 (by decide)]; exact n4, ⟨kc, by rw [hE 1 (by decide)]; exact n5, n7.keep hz (r2 _ n7.1).1 (cel _ n7.1 (Or.inl n7.2.1))⟩, by rw [hE 2 (by decide)]; exact n8, n9⟩
  · rw [r7 8 (by decide) (by decide)]; exact chn.congr _ _ (fun a ha => nod a ha 5 (by decide)) b3
  · rw [r7 9 (by decide) (by decide)]; exact chn.congr _ _ (fun a ha => nod a (List.mem_reverse.mp ha) 4 (by decide)) b4
  · by_cases hS : S a
    · exact cel a ha (hn hS)
    · funext j
      refine r8 a ha (fun q => hS (by rw [q]; exact a1)) (fun q => ?_) j (Or.inl (fun q => ?_))
      · rw [q4] at q; exact hS (by rw [← Value.ref.inj q]; exact q5)
      · obtain ⟨e, he, rfl⟩ := List.mem_map.mp q
        exact hS (b1 e he).1
section
variable {X : gX} {S : Nat → Prop} {G : gH} {m : Nat} {c : Int} {E : List lE}
theorem h_resizeI {sz : Int} (h : LMi G S m c E sz) (hc : isCap4 c) : Tri X 4 Y_J4_resize [.ref m] 1 (2 * c).toNat G (fun r G' => (∃ t, r = some (.ref t)) ∧ LMi G' (xt S G G') m (2 * c) E sz ∧ Fr S G G' ∧ gs G' = gs G + 1) := by
  obtain ⟨⟨a1, a2, a3⟩, a4, a5, a6, a7, a8, a9, b1, b2, b3, b4, q1, q2, tab, q4, q5, q6, q7, q8, q9⟩ := id h
  refine (h_resize1 hc ⟨a2, a3⟩ q4 q2 (fun e he => ⟨(b1 e he).n3, (b1 e he).2.1⟩) b2 ⟨q6, q7, q8⟩ q9).mo ?_
  rintro r G' ⟨rfl, hR⟩
  have := h.rz (by omega) hR
  exact ⟨⟨_, rfl⟩, this.1, this.2, hR.1⟩
theorem h_treeify {sz : Int} {tab : Nat} {z : Int32} (h : LMi G S m 16 E sz) (ht : gm G m 0 = .ref tab) : Tri X 5 Y_J4_treeifyBin [.ref m, .ref tab, .int z] 1 32 G (fun r G' => r = none ∧ LMi G' (xt S G G') m 32 E sz ∧ Fr S G G' ∧ gs G' = gs G + 1) := by
  obtain ⟨⟨a1, a2, a3⟩, a4, a5, a6, a7, a8, a9, b1, b2, b3, b4, q1, q2, tab', q4, q5, q6, q7, q8, q9⟩ := id h
  rw [ht] at q4
  cases q4
  have hl : ((gl G tab : Nat) : Int) = 16 := by omega
  refine Tri.ofQ (by decide +kernel) (Nat.le_of_ble_eq_true rfl) (fun Q hQ => ?_)
  refine excS rfl 17 14 _ _ _ _ _ _ ?_
  simp (maxSteps := 1000000) (disch := first | omega | (simp only [gs_new, gs_put]; omega) | fail) only [exC, Nat.reduceAdd, Nat.reduceSub, Nat.reduceMul, Nat.reduceLeDiff, Nat.reduceLT, Nat.reduceEqDiff, Nat.reduceBEq, Int.reduceAdd, Int.reduceSub, Int.reduceMul, Int.reduceNeg, Int.reduceToNat, Int.reduceLE, Int.reduceLT, Int.reduceEq, Int.reduceGE, Int.reduceGT, ↓reduceIte, reduceCtorEq, gm_pe, gm_pn, gc_put, gl_put, gs_put, exists_eq_left', exists_eq_left, gs_new, gc_ne, gc_nn, gl_ne, gl_nn, gm_ne, gm_nn, cd_J4_treeifyBin, q7, hl, iI_rt, a3]
  try simp only [iteP]
  refine gCall.of (h_resizeI h (Or.inl rfl)) (by decide) (by first | omega | decide) (by first | omega | decide) ?_
  rintro r G' ⟨⟨t, rfl⟩, w⟩
  refine exS rfl 4 _ _ _ _ _ _ ?_
  simp (maxSteps := 1000000) (disch := first | omega | (simp only [gs_new, gs_put]; omega) | fail) only [exC, Nat.reduceAdd, Nat.reduceSub, Nat.reduceMul, Nat.reduceLeDiff, Nat.reduceLT, Nat.reduceEqDiff, Nat.reduceBEq, Int.reduceAdd, Int.reduceSub, Int.reduceMul, Int.reduceNeg, Int.reduceToNat, Int.reduceLE, Int.reduceLT, Int.reduceEq, Int.reduceGE, Int.reduceGT, ↓reduceIte, reduceCtorEq, gm_pe, gm_pn, gc_put, gl_put, gs_put, exists_eq_left', exists_eq_left, gs_new, gc_ne, gc_nn, gl_ne, gl_nn, gm_ne, gm_nn, cd_J4_treeifyBin]
  try simp only [iteP]
  exact hQ _ _ ⟨rfl, w⟩
/-- a new node at the end of the order -/
def NN (G G' : gH) (m : Nat) (z : Int) (kc : Nat) (v : Value) (L : List Nat) : Prop :=
  gs G' = gs G + 1 ∧ (∀ a, a < gs G → gc G' a = gc G a ∧ gl G' a = gl G a) ∧ gc G' (gs G) = 24 ∧ gm G' (gs G) 0 = .int (iI z) ∧ gm G' (gs G) 1 = .ref kc ∧ gm G' (gs G) 2 = v ∧ gm G' (gs G) 3 = .null ∧
  (∀ j, j ≠ 8 → j ≠ 9 → gm G' m j = gm G m j) ∧ (∀ a, a < gs G → a ≠ m → ∀ j, (a ∉ L ∨ j ≠ 5) → gm G' a j = gm G a j) ∧
  chn G' 5 (gm G' m 8) (L ++ [gs G]) ∧ chn G' 4 (gm G' m 9) (L ++ [gs G]).reverse
theorem n_init0 {a kc : Nat} {z : Int} {v : Value} (ha : gc G a = 24) (hv : rfOK v) : Tri X 2 Y_J31_init [.ref a, .int (iI z), .ref kc, v, .null] 0 0 G (fun r G' => r = none ∧ G' = gput (gput (gput (gput G a 0 (.int (iI z))) a 1 (.ref kc)) a 2 v) a 3 .null) := by
  cases v <;> try exact hv.elim
  all_goals
    refine Tri.of (by decide +kernel) (Nat.le_of_ble_eq_true rfl) ?_
    refine excS rfl 1 2 _ _ _ _ _ _ ?_
    simp (maxSteps := 1000000) (disch := first | omega | (simp only [gs_new, gs_put]; omega) | fail) only [exC, Nat.reduceAdd, Nat.reduceSub, Nat.reduceMul, Nat.reduceLeDiff, Nat.reduceLT, Nat.reduceEqDiff, Nat.reduceBEq, Int.reduceAdd, Int.reduceSub, Int.reduceMul, Int.reduceNeg, Int.reduceToNat, Int.reduceLE, Int.reduceLT, Int.reduceEq, Int.reduceGE, Int.reduceGT, ↓reduceIte, reduceCtorEq, gm_pe, gm_pn, gc_put, gl_put, gs_put, exists_eq_left', exists_eq_left, gs_new, gc_ne, gc_nn, gl_ne, gl_nn, gm_ne, gm_nn, cd_J31_init]
    try simp only [iteP]
    refine w_objInit q1044 dJ31_init_1 (by decide) (by decide) ?_
    refine exS rfl 20 _ _ _ _ _ _ ?_
    simp (maxSteps := 1000000) (disch := first | omega | (simp only [gs_new, gs_put]; omega) | fail) only [exC, Nat.reduceAdd, Nat.reduceSub, Nat.reduceMul, Nat.reduceLeDiff, Nat.reduceLT, Nat.reduceEqDiff, Nat.reduceBEq, Int.reduceAdd, Int.reduceSub, Int.reduceMul, Int.reduceNeg, Int.reduceToNat, Int.reduceLE, Int.reduceLT, Int.reduceEq, Int.reduceGE, Int.reduceGT, ↓reduceIte, reduceCtorEq, gm_pe, gm_pn, gc_put, gl_put, gs_put, exists_eq_left', exists_eq_left, gs_new, gc_ne, gc_nn, gl_ne, gl_nn, gm_ne, gm_nn, cd_J31_init, (show (my Y_J31_init).name = "<init>" from rfl), ha]
    try simp only [iteP]
theorem n_init {a kc : Nat} {z : Int} {v : Value} (ha : gc G a = 24) (hv : rfOK v) : Tri X 3 Y_J32_init [.ref a, .int (iI z), .ref kc, v, .null] 0 0 G (fun r G' => r = none ∧ G' = gput (gput (gput (gput G a 0 (.int (iI z))) a 1 (.ref kc)) a 2 v) a 3 .null) := by
  cases v <;> try exact hv.elim
  all_goals
    refine Tri.of (by decide +kernel) (Nat.le_of_ble_eq_true rfl) ?_
    refine exS rfl 7 _ _ _ _ _ _ ?_
    simp (maxSteps := 1000000) (disch := first | omega | (simp only [gs_new, gs_put]; omega) | fail) only [exC, Nat.reduceAdd, Nat.reduceSub, Nat.reduceMul, Nat.reduceLeDiff, Nat.reduceLT, Nat.reduceEqDiff, Nat.reduceBEq, Int.reduceAdd, Int.reduceSub, Int.reduceMul, Int.reduceNeg, Int.reduceToNat, Int.reduceLE, Int.reduceLT, Int.reduceEq, Int.reduceGE, Int.reduceGT, ↓reduceIte, reduceCtorEq, gm_pe, gm_pn, gc_put, gl_put, gs_put, exists_eq_left', exists_eq_left, gs_new, gc_ne, gc_nn, gl_ne, gl_nn, gm_ne, gm_nn, cd_J32_init, ha]
    try simp only [iteP]
    refine gCall.of (n_init0 ha trivial) (by decide) (by first | omega | decide) (by first | omega | decide) ?_
    rintro r G' ⟨rfl, rfl⟩
    refine exS rfl 3 _ _ _ _ _ _ ?_
    simp (maxSteps := 1000000) (disch := first | omega | (simp only [gs_new, gs_put]; omega) | fail) only [exC, Nat.reduceAdd, Nat.reduceSub, Nat.reduceMul, Nat.reduceLeDiff, Nat.reduceLT, Nat.reduceEqDiff, Nat.reduceBEq, Int.reduceAdd, Int.reduceSub, Int.reduceMul, Int.reduceNeg, Int.reduceToNat, Int.reduceLE, Int.reduceLT, Int.reduceEq, Int.reduceGE, Int.reduceGT, ↓reduceIte, reduceCtorEq, gm_pe, gm_pn, gc_put, gl_put, gs_put, exists_eq_left', exists_eq_left, gs_new, gc_ne, gc_nn, gl_ne, gl_nn, gm_ne, gm_nn, cd_J32_init]
    try simp only [iteP]
/-- the heap behind a new node's constructor -/
def nodG (G : gH) (z : Int) (kc : Nat) (v : Value) : gH := gput (gput (gput (gput (gnew G 24 0 (vp_V (gDf 23))) (gs G) 0 (.int (iI z))) (gs G) 1 (.ref kc)) (gs G) 2 v) (gs G) 3 .null
theorem h_link {b : Nat} {L : List Nat} (hm : gc G m = 13) (hb : gc G b = 24) (h11 : gm G m 11 = .int (iI 0)) (hbL : b ∉ L) (hbm : m ≠ b) (hL : ∀ a ∈ L, gc G a = 24) (hnd : L.Nodup) (b4 : gm G b 4 = .null) (b5 : gm G b 5 = .null) (h8 : chn G 5 (gm G m 8) L) (h9 : chn G 4 (gm G m 9) L.reverse) : Tri X 1 Y_J5_linkNodeAtEnd [.ref m, .ref b] 0 0 G (fun r G' => r = none ∧ gs G' = gs G ∧ gc G' = gc G ∧ gl G' = gl G ∧ (∀ j, j ≠ 8 → j ≠ 9 → gm G' m j = gm G m j) ∧ (∀ a, a ≠ m → ∀ j, (a ∉ L ∨ j ≠ 5) → (a ≠ b ∨ j ≠ 4) → gm G' a j = gm G a j) ∧ chn G' 5 (gm G' m 8) (L ++ [b]) ∧ chn G' 4 (gm G' m 9) (L ++ [b]).reverse) := by
  rcases List.eq_nil_or_concat L with rfl | ⟨L0, x, rfl⟩
  · have e9 : gm G m 9 = .null := h9
    refine Tri.ofQ (by decide +kernel) (Nat.le_of_ble_eq_true rfl) (fun Q hQ => ?_)
    refine exS rfl 40 _ _ _ _ _ _ ?_
    simp (maxSteps := 1000000) (disch := first | omega | (simp only [gs_new, gs_put]; omega) | fail) only [exC, Nat.reduceAdd, Nat.reduceSub, Nat.reduceMul, Nat.reduceLeDiff, Nat.reduceLT, Nat.reduceEqDiff, Nat.reduceBEq, Int.reduceAdd, Int.reduceSub, Int.reduceMul, Int.reduceNeg, Int.reduceToNat, Int.reduceLE, Int.reduceLT, Int.reduceEq, Int.reduceGE, Int.reduceGT, ↓reduceIte, reduceCtorEq, gm_pe, gm_pn, gc_put, gl_put, gs_put, exists_eq_left', exists_eq_left, gs_new, gc_ne, gc_nn, gl_ne, gl_nn, gm_ne, gm_nn, cd_J5_linkNodeAtEnd, hm, hb, h11, e9, iI_rt]
    try simp only [iteP]
    refine hQ _ _ ⟨rfl, rfl, rfl, rfl, fun j j8 j9 => ?_, fun a ha j _ _ => ?_, ?_, ?_⟩
    · rw [gm_pn (fun z => j8 z.2), gm_pn (fun z => j9 z.2)]
    · rw [gm_pn (fun z => ha z.1), gm_pn (fun z => ha z.1)]
    · rw [gm_pe]
      refine ⟨rfl, ?_⟩
      show gm _ _ _ = _
      rw [gm_pn (fun z => hbm z.1.symm), gm_pn (fun z => hbm z.1.symm)]; exact b5
    · rw [gm_pn (by omega), gm_pe]
      refine ⟨rfl, ?_⟩
      show gm _ _ _ = _
      rw [gm_pn (fun z => hbm z.1.symm), gm_pn (fun z => hbm z.1.symm)]; exact b4
  · rw [List.concat_eq_append] at *
    have e9 : gm G m 9 = .ref x := by
      have := h9.hd
      rw [List.reverse_append] at this
      exact this
    have hx : gc G x = 24 := hL x (by simp)
    have hxm : ¬ x = m := ne_tag hx hm (by decide)
    have hxb : ¬ x = b := fun q => hbL (by simp [q])
    have hmb : ¬ m = b := hbm
    refine Tri.ofQ (by decide +kernel) (Nat.le_of_ble_eq_true rfl) (fun Q hQ => ?_)
    refine exS rfl 40 _ _ _ _ _ _ ?_
    simp (maxSteps := 1000000) (disch := first | omega | (simp only [gs_new, gs_put]; omega) | fail) only [exC, Nat.reduceAdd, Nat.reduceSub, Nat.reduceMul, Nat.reduceLeDiff, Nat.reduceLT, Nat.reduceEqDiff, Nat.reduceBEq, Int.reduceAdd, Int.reduceSub, Int.reduceMul, Int.reduceNeg, Int.reduceToNat, Int.reduceLE, Int.reduceLT, Int.reduceEq, Int.reduceGE, Int.reduceGT, ↓reduceIte, reduceCtorEq, gm_pe, gm_pn, gc_put, gl_put, gs_put, exists_eq_left', exists_eq_left, gs_new, gc_ne, gc_nn, gl_ne, gl_nn, gm_ne, gm_nn, cd_J5_linkNodeAtEnd, hm, hb, h11, e9, iI_rt, hx]
    try simp only [iteP]
    have hnm : m ∉ L0 ++ [x] := fun q => by have := hL m q; rw [hm] at this; cases this
    refine hQ _ _ ⟨rfl, rfl, rfl, rfl, fun j j8 j9 => ?_, fun a ha j q1 q2 => ?_, ?_, ?_⟩
    · rw [gm_pn (fun z => hxm z.1.symm), gm_pn (fun z => hmb z.1), gm_pn (fun z => j9 z.2)]
    · rw [gm_pn, gm_pn, gm_pn (fun z => ha z.1)]
      · rintro ⟨rfl, rfl⟩
        rcases q2 with q | q
        · exact q rfl
        · exact q rfl
      · rintro ⟨rfl, rfl⟩
        rcases q1 with q | q
        · exact q (by simp)
        · exact q rfl
    · rw [gm_pn (fun z => hxm z.1.symm), gm_pn (fun z => hmb z.1), gm_pn (by omega)]
      refine chn.snoc L0 _ (chn.congr _ _ (fun a ha => ?_) h8) hnd hbL ?_
      · rw [gm_pn (by omega), gm_pn (fun z => hnm (by rw [← z.1]; exact ha))]
      · rw [gm_pn (by omega), gm_pn (fun z => hmb z.1.symm)]; exact b5
    · rw [gm_pn (fun z => hxm z.1.symm), gm_pn (fun z => hmb z.1), gm_pe, List.reverse_append, List.reverse_singleton, List.singleton_append]
      refine ⟨rfl, ?_⟩
      rw [gm_pn (fun z => hxb z.1.symm), gm_pe]
      rw [e9] at h9
      refine chn.congr _ _ (fun a ha => ?_) h9
      have ha' := List.mem_reverse.mp ha
      rw [gm_pn (by omega), gm_pn (fun z => hbL (by rw [← z.1]; exact ha')), gm_pn (fun z => hnm (by rw [← z.1]; exact ha'))]
theorem h_newNode {kc : Nat} {z : Int} {v : Value} {L : List Nat} (hm : m < gs G ∧ gc G m = 13) (h11 : gm G m 11 = .int (iI 0)) (hL : ∀ a ∈ L, gc G a = 24 ∧ a < gs G) (hnd : L.Nodup) (h8 : chn G 5 (gm G m 8) L) (h9 : chn G 4 (gm G m 9) L.reverse) (hv : rfOK v) : Tri X 4 Y_J5_newNode [.ref m, .int (iI z), .ref kc, v, .null] 1 6 G (fun r G' => r = some (.ref (gs G)) ∧ NN G G' m z kc v L) := by
  have e1 : ∀ a, a < gs G → ∀ j, gm (nodG G z kc v) a j = gm G a j := fun a ha j => by
    unfold nodG
    rw [gm_pn (by omega), gm_pn (by omega), gm_pn (by omega), gm_pn (by omega), gm_nn ha]
  have e2 : ∀ a, a < gs G → gc (nodG G z kc v) a = gc G a ∧ gl (nodG G z kc v) a = gl G a := fun a ha => ⟨gc_nn (G := G) (t := 24) (n := 0) (f := vp_V (gDf 23)) ha, gl_nn (G := G) (t := 24) (n := 0) (f := vp_V (gDf 23)) ha⟩
  have e3 : gc (nodG G z kc v) (gs G) = 24 := gc_ne (G := G) (t := 24) (n := 0) (f := vp_V (gDf 23))
  have e4 : gm (nodG G z kc v) (gs G) 4 = .null ∧ gm (nodG G z kc v) (gs G) 5 = .null := by
    unfold nodG
    constructor <;> rw [gm_pn (by omega), gm_pn (by omega), gm_pn (by omega), gm_pn (by omega), gm_ne] <;> rfl
  have hne : m ≠ gs G := by omega
  have hnL : gs G ∉ L := fun q => by have := (hL _ q).2; omega
  have key : ∀ Q : Option Value → gH → Prop, (∀ r G', (r = some (.ref (gs G)) ∧ NN G G' m z kc v L) → Q r G') → Wp X Y_J5_newNode 4 Q 0 0 (nodG G z kc v) 12 [some (.ref m), some (.int (iI z)), some (.ref kc), some v, some .null, none] [.ref (gs G)] := by
    intro Q hQ
    refine exS rfl 5 _ _ _ _ _ _ ?_
    simp (maxSteps := 1000000) (disch := first | omega | (simp only [gs_new, gs_put]; omega) | fail) only [exC, Nat.reduceAdd, Nat.reduceSub, Nat.reduceMul, Nat.reduceLeDiff, Nat.reduceLT, Nat.reduceEqDiff, Nat.reduceBEq, Int.reduceAdd, Int.reduceSub, Int.reduceMul, Int.reduceNeg, Int.reduceToNat, Int.reduceLE, Int.reduceLT, Int.reduceEq, Int.reduceGE, Int.reduceGT, ↓reduceIte, reduceCtorEq, gm_pe, gm_pn, gc_put, gl_put, gs_put, exists_eq_left', exists_eq_left, gs_new, gc_ne, gc_nn, gl_ne, gl_nn, gm_ne, gm_nn, cd_J5_newNode, (e2 m hm.1).1, hm.2]
    try simp only [iteP]
    refine gCall.of (h_link (b := gs G) (L := L) (by rw [(e2 m hm.1).1]; exact hm.2) e3 (by rw [e1 m hm.1]; exact h11) hnL hne (fun a ha => by rw [(e2 a (hL a ha).2).1]; exact (hL a ha).1) hnd e4.1 e4.2 (by rw [e1 m hm.1]; exact chn.congr _ _ (fun a ha => e1 a (hL a ha).2 5) h8) (by rw [e1 m hm.1]; exact chn.congr _ _ (fun a ha => e1 a (hL a (List.mem_reverse.mp ha)).2 4) h9)) (by decide) (by first | omega | decide) (by first | omega | decide) ?_
    rintro r G' ⟨rfl, r1, r2, r3, r4, r5, r6, r7⟩
    refine exS rfl 3 _ _ _ _ _ _ ?_
    simp (maxSteps := 1000000) (disch := first | omega | (simp only [gs_new, gs_put]; omega) | fail) only [exC, Nat.reduceAdd, Nat.reduceSub, Nat.reduceMul, Nat.reduceLeDiff, Nat.reduceLT, Nat.reduceEqDiff, Nat.reduceBEq, Int.reduceAdd, Int.reduceSub, Int.reduceMul, Int.reduceNeg, Int.reduceToNat, Int.reduceLE, Int.reduceLT, Int.reduceEq, Int.reduceGE, Int.reduceGT, ↓reduceIte, reduceCtorEq, gm_pe, gm_pn, gc_put, gl_put, gs_put, exists_eq_left', exists_eq_left, gs_new, gc_ne, gc_nn, gl_ne, gl_nn, gm_ne, gm_nn, cd_J5_newNode]
    try simp only [iteP]
    have nb : ∀ j, j ≠ 4 → gm G' (gs G) j = gm (nodG G z kc v) (gs G) j := fun j hj => r5 _ hne.symm j (Or.inl hnL) (Or.inr hj)
    refine hQ _ _ ⟨rfl, by rw [r1]; rfl, fun a ha => by rw [r2, r3]; exact e2 a ha, by rw [r2]; exact e3, ?_, ?_, ?_, ?_, fun j j8 j9 => by rw [r4 j j8 j9]; exact e1 m hm.1 j, fun a ha hm' j hj => by rw [r5 a hm' j hj (Or.inl (by omega))]; exact e1 a ha j, r6, r7⟩
    · rw [nb 0 (by decide)]; unfold nodG; rw [gm_pn (by omega), gm_pn (by omega), gm_pn (by omega), gm_pe]
    · rw [nb 1 (by decide)]; unfold nodG; rw [gm_pn (by omega), gm_pn (by omega), gm_pe]
    · rw [nb 2 (by decide)]; unfold nodG; rw [gm_pn (by omega), gm_pe]
    · rw [nb 3 (by decide)]; unfold nodG; rw [gm_pe]
  cases v <;> try exact hv.elim
  all_goals
    refine Tri.ofQ (by decide +kernel) (Nat.le_of_ble_eq_true rfl) (fun Q hQ => ?_)
    refine exS rfl 10 _ _ _ _ _ _ ?_
    simp (maxSteps := 1000000) (disch := first | omega | (simp only [gs_new, gs_put]; omega) | fail) only [exC, Nat.reduceAdd, Nat.reduceSub, Nat.reduceMul, Nat.reduceLeDiff, Nat.reduceLT, Nat.reduceEqDiff, Nat.reduceBEq, Int.reduceAdd, Int.reduceSub, Int.reduceMul, Int.reduceNeg, Int.reduceToNat, Int.reduceLE, Int.reduceLT, Int.reduceEq, Int.reduceGE, Int.reduceGT, ↓reduceIte, reduceCtorEq, gm_pe, gm_pn, gc_put, gl_put, gs_put, exists_eq_left', exists_eq_left, gs_new, gc_ne, gc_nn, gl_ne, gl_nn, gm_ne, gm_nn, cd_J5_newNode]
    try simp only [iteP]
    refine gCall.of (n_init (G := gnew G 24 0 (vp_V (gDf 23))) (a := gs G) (kc := kc) (z := z) gc_ne hv) (by decide) (by first | omega | decide) (by first | omega | decide) ?_
    rintro r G' ⟨rfl, rfl⟩
    exact key Q hQ
theorem h_afterAccess {b : Nat} (hm : gc G m = 13) (h10 : gm G m 10 = .int (iI 0)) (h11 : gm G m 11 = .int (iI 0)) : Tri X 1 Y_J5_afterNodeAccess [.ref m, .ref b] 0 0 G (fun r G' => r = none ∧ G' = G) := by
  refine Tri.of (by decide +kernel) (Nat.le_of_ble_eq_true rfl) ?_
  refine excS rfl 149 20 _ _ _ _ _ _ ?_
  simp (maxSteps := 1000000) (disch := first | omega | (simp only [gs_new, gs_put]; omega) | fail) only [exC, Nat.reduceAdd, Nat.reduceSub, Nat.reduceMul, Nat.reduceLeDiff, Nat.reduceLT, Nat.reduceEqDiff, Nat.reduceBEq, Int.reduceAdd, Int.reduceSub, Int.reduceMul, Int.reduceNeg, Int.reduceToNat, Int.reduceLE, Int.reduceLT, Int.reduceEq, Int.reduceGE, Int.reduceGT, ↓reduceIte, reduceCtorEq, gm_pe, gm_pn, gc_put, gl_put, gs_put, exists_eq_left', exists_eq_left, gs_new, gc_ne, gc_nn, gl_ne, gl_nn, gm_ne, gm_nn, cd_J5_afterNodeAccess, hm, h10, h11, iI_rt]
  try simp only [iteP]
theorem h_eldest {b : Nat} : Tri X 1 Y_J5_removeEldestEntry [.ref m, .ref b] 0 0 G (fun r G' => r = some (.int (iI 0)) ∧ G' = G) := by
  refine Tri.of (by decide +kernel) (Nat.le_of_ble_eq_true rfl) ?_
  refine exS rfl 4 _ _ _ _ _ _ ?_
  simp (maxSteps := 1000000) (disch := first | omega | (simp only [gs_new, gs_put]; omega) | fail) only [exC, Nat.reduceAdd, Nat.reduceSub, Nat.reduceMul, Nat.reduceLeDiff, Nat.reduceLT, Nat.reduceEqDiff, Nat.reduceBEq, Int.reduceAdd, Int.reduceSub, Int.reduceMul, Int.reduceNeg, Int.reduceToNat, Int.reduceLE, Int.reduceLT, Int.reduceEq, Int.reduceGE, Int.reduceGT, ↓reduceIte, reduceCtorEq, gm_pe, gm_pn, gc_put, gl_put, gs_put, exists_eq_left', exists_eq_left, gs_new, gc_ne, gc_nn, gl_ne, gl_nn, gm_ne, gm_nn, cd_J5_removeEldestEntry]
  try simp only [iteP]
theorem h_afterInsertion {b : Nat} (hm : gc G m = 13) (h8 : gm G m 8 = .ref b) (hb : gc G b = 24) : Tri X 2 Y_J5_afterNodeInsertion [.ref m, .int (iI 1)] 0 0 G (fun r G' => r = none ∧ G' = G) := by
  refine Tri.of (by decide +kernel) (Nat.le_of_ble_eq_true rfl) ?_
  refine exS rfl 12 _ _ _ _ _ _ ?_
  simp (maxSteps := 1000000) (disch := first | omega | (simp only [gs_new, gs_put]; omega) | fail) only [exC, Nat.reduceAdd, Nat.reduceSub, Nat.reduceMul, Nat.reduceLeDiff, Nat.reduceLT, Nat.reduceEqDiff, Nat.reduceBEq, Int.reduceAdd, Int.reduceSub, Int.reduceMul, Int.reduceNeg, Int.reduceToNat, Int.reduceLE, Int.reduceLT, Int.reduceEq, Int.reduceGE, Int.reduceGT, ↓reduceIte, reduceCtorEq, gm_pe, gm_pn, gc_put, gl_put, gs_put, exists_eq_left', exists_eq_left, gs_new, gc_ne, gc_nn, gl_ne, gl_nn, gm_ne, gm_nn, cd_J5_afterNodeInsertion, hm, h8, iI_rt]
  try simp only [iteP]
  refine gCall.of (h_eldest) (by decide) (by first | omega | decide) (by first | omega | decide) ?_
  rintro r G' ⟨rfl, rfl⟩
  refine exS rfl 3 _ _ _ _ _ _ ?_
  simp (maxSteps := 1000000) (disch := first | omega | (simp only [gs_new, gs_put]; omega) | fail) only [exC, Nat.reduceAdd, Nat.reduceSub, Nat.reduceMul, Nat.reduceLeDiff, Nat.reduceLT, Nat.reduceEqDiff, Nat.reduceBEq, Int.reduceAdd, Int.reduceSub, Int.reduceMul, Int.reduceNeg, Int.reduceToNat, Int.reduceLE, Int.reduceLT, Int.reduceEq, Int.reduceGE, Int.reduceGT, ↓reduceIte, reduceCtorEq, gm_pe, gm_pn, gc_put, gl_put, gs_put, exists_eq_left', exists_eq_left, gs_new, gc_ne, gc_nn, gl_ne, gl_nn, gm_ne, gm_nn, cd_J5_afterNodeInsertion, iI_rt]
  try simp only [iteP]
end
