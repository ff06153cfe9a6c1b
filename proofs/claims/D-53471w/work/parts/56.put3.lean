/-! LINKED HASH MAPS: putVal -/
set_option maxRecDepth 100000
set_option maxHeartbeats 4000000
section
variable {X : gX} {S : Nat → Prop} {G : gH} {m : Nat} {c : Int} {E : List lE}
/-- what a put leaves -/
abbrev putP (G : gH) (S : Nat → Prop) (m : Nat) (c : Int) (E : List lE) (z : Int) (v : Value) : Option Value → gH → Prop := fun r G' => r = some (evv (lkp E z)) ∧ (∃ E', putR E z v E' ∧ LM G' (xt S G G') m (capP c E z) E') ∧ Fr S G G'
theorem capP_b (hc : c = 0 ∨ isCap c) {z : Int} (h : c ≠ 256 ∨ E.length < 192) : c ≤ capP c E z ∧ (capP c E z = 0 ∨ isCap (capP c E z)) := by
  unfold capP
  dsimp only
  repeat' split
  all_goals omega
theorem xt_xt {S : Nat → Prop} {G G1 G2 : gH} (h1 : gs G ≤ gs G1) (h2 : gs G1 ≤ gs G2) : ∀ a, xt (xt S G G1) G1 G2 a → xt S G G2 a := by
  intro a h
  rcases h with ⟨h | h, h'⟩ | h
  · exact Or.inl h
  · exact Or.inr ⟨h.1, by omega⟩
  · exact Or.inr ⟨by omega, h.2⟩
/-- a new node is linked behind a bucket's last one, the table grows perhaps -/
theorem pv_new {Q : Option Value → gH → Prop} {k n kc : Nat} {z c2 : Int} {v : Value} {a : Nat} (h : LMi G S m c2 (E ++ [(z, a, v)]) E.length) (hz : z ∉ E.map ek) (hEl : (E.length : Int) ≤ c2 / 4 * 3)
    (hk : 1 ≤ k ∨ (E.length : Int) + 1 ≤ c2 / 4 * 3) (hn : (E.length : Int) + 1 ≤ c2 / 4 * 3 ∨ 2 * c2 ≤ n)
    (hQ : ∀ G', LM G' (xt S G G') m (if (E.length : Int) + 1 ≤ c2 / 4 * 3 then c2 else 2 * c2) (E ++ [(z, a, v)]) → Fr S G G' → gs G' ≤ gs G + 1 → Q (some .null) G') :
    ∀ v6 v7 v8 v9 v10 v11 v12, Wp X Y_J4_putVal 6 Q k n G 259 (pvL m kc z v v6 v7 v8 v9 v10 v11 v12) [] := by
  refine pv_end h hEl ?_ (fun q => ?_) hQ
  · split <;> omega
  · omega
/-- the loop over a bucket -/
theorem pv_loop {Q : Option Value → gH → Prop} {k n kc tab : Nat} {z : Int} {v : Value} (hL : LM G S m c E) (hc : isCap c) (hk : isCell G kc z) (hv : rfOK v) (ht : gm G m 0 = .ref tab)
    (hfound : ∀ e ∈ E, ek e = z → ∀ v7 v11 v12, Wp X Y_J4_putVal 6 Q k n G 222 (pvL m kc z v (some (.ref tab)) v7 (some (.int (iI c))) (some (.int (iI (z % c)))) (some (.ref (ea e))) v11 v12) [])
    (hnew : z ∉ E.map ek → ∀ (B0 : List lE) (ex : lE) (G1 : gH), bkt E c (z % c) = B0 ++ [ex] → NN G G1 m z kc v (E.map ea) → ∀ v11, Wp X Y_J4_putVal 6 Q (k - 1) (n - 6) (gput G1 (ea ex) 3 (.ref (gs G))) 158 (pvL m kc z v (some (.ref tab)) (some (.ref (ea ex))) (some (.int (iI c))) (some (.int (iI (z % c)))) (some .null) v11 (some (.int (iI B0.length)))) [])
    (hk1 : z ∉ E.map ek → 1 ≤ k ∧ 6 ≤ n) :
    ∀ (F P : List lE) (e : lE), bkt E c (z % c) = P ++ e :: F → z ∉ (P ++ [e]).map ek → ∀ v10 v11, Wp X Y_J4_putVal 6 Q k n G 134 (pvL m kc z v (some (.ref tab)) (some (.ref (ea e))) (some (.int (iI c))) (some (.int (iI (z % c)))) v10 v11 (some (.int (iI P.length)))) [] := by
  intro F
  have hm := hL.1.2.2
  have h11 := hL.2.2.2.2.2.2.1
  have hzc := hk.2.2.2
  obtain ⟨a1, a4, a5, a6, a7, a8, a9, b1, b2, b3, b4, b5⟩ := id hL
  have nd := nod_nd (fun e he => (b1 e he).n3) b2
  have hnE : ∀ a ∈ E.map ea, gc G a = 24 ∧ a < gs G := fun a ha => by
    obtain ⟨e, he, rfl⟩ := List.mem_map.mp ha
    exact ⟨(b1 e he).2.2.1, (b1 e he).2.1⟩
  have hch : chn G 3 (gm G tab (z % c).toNat) ((bkt E c (z % c)).map ea) := by
    rcases b5 with ⟨h0, -⟩ | ⟨-, -, -, tab', q4, -, -, -, -, q9⟩
    · omega
    · rw [ht] at q4; cases q4
      have := cap_mod hc z
      exact q9 _ this.1 this.2
  have hlen : E.length ≤ 162 := keys_len (fun e he => (b1 e he).n3) b2
  have hbl : (bkt E c (z % c)).length ≤ E.length := List.length_filter_le _ _
  induction F with
  | nil =>
    intro P e hB hzP v10 v11
    have heB : e ∈ bkt E c (z % c) := by rw [hB]; simp
    have heE := (List.mem_filter.mp heB).1
    obtain ⟨n1, n2, n3, n4, -⟩ := b1 e heE
    have hzE : z ∉ E.map ek := fun q => by
      obtain ⟨e', he', hq⟩ := List.mem_map.mp q
      have : e' ∈ bkt E c (z % c) := List.mem_filter.mpr ⟨he', by simp [hq]⟩
      rw [hB] at this
      exact hzP (List.mem_map.mpr ⟨e', this, hq⟩)
    have hnx : gm G (ea e) 3 = .null := by
      rw [hB, List.map_append, List.map_cons] at hch
      exact chn.at _ _ hch
    have hkk := hk1 hzE
    have hlp : P.length ≤ 162 := by rw [hB] at hbl; simp at hbl; omega
    have key : ∀ G1, NN G G1 m z kc v (E.map ea) → ∀ v11, Wp X Y_J4_putVal 6 Q (k - 1) (n - 6) G1 155 (pvL m kc z v (some (.ref tab)) (some (.ref (ea e))) (some (.int (iI c))) (some (.int (iI (z % c)))) (some .null) v11 (some (.int (iI P.length)))) [.ref (gs G), .ref (ea e)] := by
      intro G1 hN v11
      have := hnew hzE P e G1 hB hN v11
      have hg : gc G1 (ea e) = 24 := by rw [(hN.2.1 _ n2).1]; exact n3
      refine exS rfl 1 _ _ _ _ _ _ ?_
      simp (maxSteps := 1000000) (disch := first | omega | (simp only [gs_new, gs_put]; omega) | fail) only [exC, Nat.reduceAdd, Nat.reduceSub, Nat.reduceMul, Nat.reduceLeDiff, Nat.reduceLT, Nat.reduceEqDiff, Nat.reduceBEq, Int.reduceAdd, Int.reduceSub, Int.reduceMul, Int.reduceNeg, Int.reduceToNat, Int.reduceLE, Int.reduceLT, Int.reduceEq, Int.reduceGE, Int.reduceGT, ↓reduceIte, reduceCtorEq, gm_pe, gm_pn, gc_put, gl_put, gs_put, exists_eq_left', exists_eq_left, gs_new, gc_ne, gc_nn, gl_ne, gl_nn, gm_ne, gm_nn, cd_J4_putVal, hg]
      try simp only [iteP]
      exact this
    have hcall := h_newNode (X := X) (kc := kc) (z := z) (L := E.map ea) ⟨a1.2.1, hm⟩ h11 hnE nd b3 b4 hv
    cases v <;> try exact hv.elim
    all_goals
      refine exS rfl 14 _ _ _ _ _ _ ?_
      simp (maxSteps := 1000000) (disch := first | omega | (simp only [gs_new, gs_put]; omega) | fail) only [exC, Nat.reduceAdd, Nat.reduceSub, Nat.reduceMul, Nat.reduceLeDiff, Nat.reduceLT, Nat.reduceEqDiff, Nat.reduceBEq, Int.reduceAdd, Int.reduceSub, Int.reduceMul, Int.reduceNeg, Int.reduceToNat, Int.reduceLE, Int.reduceLT, Int.reduceEq, Int.reduceGE, Int.reduceGT, ↓reduceIte, reduceCtorEq, gm_pe, gm_pn, gc_put, gl_put, gs_put, exists_eq_left', exists_eq_left, gs_new, gc_ne, gc_nn, gl_ne, gl_nn, gm_ne, gm_nn, cd_J4_putVal, n3, hnx, hm]
      try simp only [iteP]
      refine gCall.of (hcall) (by decide) (by first | omega | decide) (by first | omega | decide) ?_
      rintro r G1 ⟨rfl, hN⟩
      exact key G1 hN _
  | cons e2 F ih =>
    intro P e hB hzP v10 v11
    have heB : e ∈ bkt E c (z % c) := by rw [hB]; simp
    have heB2 : e2 ∈ bkt E c (z % c) := by rw [hB]; simp
    have heE := (List.mem_filter.mp heB).1
    have heE2 := (List.mem_filter.mp heB2).1
    obtain ⟨n1, n2, n3, n4, -⟩ := b1 e heE
    obtain ⟨w1, w2, w3, w4, ⟨ke, w5, w7⟩, w8⟩ := b1 e2 heE2
    have hw := w7.2.2.2
    have hnx : gm G (ea e) 3 = .ref (ea e2) := by
      rw [hB, List.map_append, List.map_cons] at hch
      exact (chn.at _ _ hch).hd
    have hlp : P.length ≤ 162 := by rw [hB] at hbl; simp at hbl; omega
    by_cases hz2 : ek e2 = z
    · have hf := hfound e2 heE2 hz2
      have hf2 : Wp X Y_J4_putVal 6 Q k n G 222 (pvL m kc z v (some (.ref tab)) none (some (.int (iI c))) (some (.int (iI (z % c)))) (some (.ref (ea e2))) none none) [] := hf _ _ _
      refine excS rfl 222 20 _ _ _ _ _ _ ?_
      simp (maxSteps := 1000000) (disch := first | omega | (simp only [gs_new, gs_put]; omega) | fail) only [exC, Nat.reduceAdd, Nat.reduceSub, Nat.reduceMul, Nat.reduceLeDiff, Nat.reduceLT, Nat.reduceEqDiff, Nat.reduceBEq, Int.reduceAdd, Int.reduceSub, Int.reduceMul, Int.reduceNeg, Int.reduceToNat, Int.reduceLE, Int.reduceLT, Int.reduceEq, Int.reduceGE, Int.reduceGT, ↓reduceIte, reduceCtorEq, gm_pe, gm_pn, gc_put, gl_put, gs_put, exists_eq_left', exists_eq_left, gs_new, gc_ne, gc_nn, gl_ne, gl_nn, gm_ne, gm_nn, cd_J4_putVal, n3, hnx, w3, w4, w5, hz2, iI_rt, hk.2.1]
      try simp only [iteP]
      refine ⟨fun _ => hf2.wk' _ (by simp [wkL]), fun _ => ?_⟩
      rw [hz2] at w7
      refine gCall.of (c_equals (X := X) hk w7) (by decide) (by first | omega | decide) (by first | omega | decide) ?_
      rintro r G' ⟨rfl, rfl⟩
      rw [if_pos rfl]
      refine excS rfl 222 4 _ _ _ _ _ _ ?_
      simp (maxSteps := 1000000) (disch := first | omega | (simp only [gs_new, gs_put]; omega) | fail) only [exC, Nat.reduceAdd, Nat.reduceSub, Nat.reduceMul, Nat.reduceLeDiff, Nat.reduceLT, Nat.reduceEqDiff, Nat.reduceBEq, Int.reduceAdd, Int.reduceSub, Int.reduceMul, Int.reduceNeg, Int.reduceToNat, Int.reduceLE, Int.reduceLT, Int.reduceEq, Int.reduceGE, Int.reduceGT, ↓reduceIte, reduceCtorEq, gm_pe, gm_pn, gc_put, gl_put, gs_put, exists_eq_left', exists_eq_left, gs_new, gc_ne, gc_nn, gl_ne, gl_nn, gm_ne, gm_nn, cd_J4_putVal, iI_rt]
      try simp only [iteP]
      exact hf2.wk' _ (by simp [wkL])
    · have := ih (P ++ [e]) e2 (by rw [hB]; simp) (fun q => by
        rw [List.map_append, List.map_cons, List.map_nil, List.mem_append, List.mem_singleton] at q
        rcases q with q | q
        · exact hzP q
        · exact hz2 q.symm) none none
      rw [List.length_append, List.length_singleton] at this
      refine excS rfl 134 20 _ _ _ _ _ _ ?_
      simp (maxSteps := 1000000) (disch := first | omega | (simp only [gs_new, gs_put]; omega) | fail) only [exC, Nat.reduceAdd, Nat.reduceSub, Nat.reduceMul, Nat.reduceLeDiff, Nat.reduceLT, Nat.reduceEqDiff, Nat.reduceBEq, Int.reduceAdd, Int.reduceSub, Int.reduceMul, Int.reduceNeg, Int.reduceToNat, Int.reduceLE, Int.reduceLT, Int.reduceEq, Int.reduceGE, Int.reduceGT, ↓reduceIte, reduceCtorEq, gm_pe, gm_pn, gc_put, gl_put, gs_put, exists_eq_left', exists_eq_left, gs_new, gc_ne, gc_nn, gl_ne, gl_nn, gm_ne, gm_nn, cd_J4_putVal, n3, hnx, w3, w4, hz2, iI_rt]
      try simp only [iteP]
      exact this.wk' _ (by simp [wkL])
/-- from the table on -/
theorem pv_from29 {Q : Option Value → gH → Prop} {k n kc tab : Nat} {z : Int} {v : Value} (hL : LM G S m c E) (hc : isCap c) (hk : isCell G kc z) (hv : rfOK v) (ht : gm G m 0 = .ref tab) (hk1 : 1 + (lev (capP c E z) - lev c) ≤ k) (hn1 : 6 + 2 * (capP c E z - c) ≤ n)
    (hQ : ∀ r G', putP G S m c E z v r G' → Q r G') : ∀ v7 v9 v10 v11 v12, Wp X Y_J4_putVal 6 Q k n G 29 (pvL m kc z v (some (.ref tab)) v7 (some (.int (iI c))) v9 v10 v11 v12) [] := by
  intro v7 v9 v10 v11 v12
  have hzc := hk.2.2.2
  have hm := hL.1.2.2
  have h11 := hL.2.2.2.2.2.2.1
  obtain ⟨a1, a4, a5, a6, a7, a8, a9, b1, b2, b3, b4, b5⟩ := id hL
  have n3 : ∀ e ∈ E, nod3 G e := fun e he => (b1 e he).n3
  have nd := nod_nd n3 b2
  have hnE : ∀ a ∈ E.map ea, gc G a = 24 ∧ a < gs G := fun a ha => by
    obtain ⟨e, he, rfl⟩ := List.mem_map.mp ha
    exact ⟨(b1 e he).2.2.1, (b1 e he).2.1⟩
  obtain ⟨hth, hEl, q5, q6, q7, q8, q9⟩ : gm G m 4 = .int (iI (c / 4 * 3)) ∧ (E.length : Int) ≤ c / 4 * 3 ∧ S tab ∧ tab < gs G ∧ gc G tab = 105 ∧ gl G tab = c.toNat ∧ ∀ b : Int, 0 ≤ b → b < c → chn G 3 (gm G tab b.toNat) ((bkt E c b).map ea) := by
    rcases b5 with ⟨h0, -⟩ | ⟨-, q2, q3, tab', q4, q5, q6, q7, q8, q9⟩
    · omega
    · rw [ht] at q4; cases q4
      exact ⟨q2, q3, q5, q6, q7, q8, q9⟩
  have hlen : E.length ≤ 162 := keys_len n3 b2
  have hcm := cap_mod hc z
  have hch := q9 _ hcm.1 hcm.2
  have hand := and_c hc hzc
  have c0 : ¬ c = 0 := by omega
  have hlev : ∀ c', isCap c' → lev (2 * c') = lev c' + 1 ∨ c' = 256 := fun c' h => by
    unfold lev
    rcases h with rfl | rfl | rfl | rfl | rfl <;> simp
  -- found
  have hfound : ∀ e ∈ E, ek e = z → ∀ v7 v11 v12, Wp X Y_J4_putVal 6 Q k n G 222 (pvL m kc z v (some (.ref tab)) v7 (some (.int (iI c))) (some (.int (iI (z % c)))) (some (.ref (ea e))) v11 v12) [] := by
    intro e he hz v7 v11 v12
    have hzE : z ∈ E.map ek := List.mem_map.mpr ⟨e, he, hz⟩
    have hcap : capP c E z = c := by unfold capP; rw [if_pos hzE]
    refine pv_found hL he hz hv (fun G' g1 g2 g3 => hQ _ _ ⟨?_, ⟨_, putR.set hzE, ?_⟩, g2⟩) _ _ _ _ _ _
    · have : lkp E z = some e := by
        cases hl : lkp E z with
        | none => exact absurd hzE (lkp_none.mp hl)
        | some e' =>
          have h1 := lkp_mem hl
          have hinj : ∀ (l : List lE), (l.map ek).Nodup → ∀ a ∈ l, ∀ b ∈ l, ek a = ek b → a = b := by
            intro l
            induction l with
            | nil => intro _ a ha; cases ha
            | cons y t ih =>
              intro hn a ha b hb hab
              have hn' := List.nodup_cons.mp hn
              rcases List.mem_cons.mp ha with rfl | ha1 <;> rcases List.mem_cons.mp hb with rfl | hb1
              · rfl
              · exact absurd (List.mem_map.mpr ⟨b, hb1, hab.symm⟩) hn'.1
              · exact absurd (show ek b ∈ List.map ek t from List.mem_map.mpr ⟨a, ha1, hab⟩) hn'.1
              · exact ih hn'.2 a ha1 b hb1 hab
          rw [hinj E b2 e' h1.1 e he (h1.2.trans hz.symm)]
      rw [this]; rfl
    · rw [hcap]
      exact g1.mono (fun a ha q => Or.inl ⟨q, by omega⟩)
  -- not found: what comes to 259
  have hnot : z ∉ E.map ek → lkp E z = none := fun h => lkp_none.mpr h
  have hnew259 : z ∉ E.map ek → ∀ (G2 : gH) (c2 : Int) (k2 n2 : Nat), LMi G2 (xt S G G2) m c2 (E ++ [(z, gs G, v)]) E.length → Fr S G G2 → (if c = 16 ∧ 8 ≤ (bkt E c (z % c)).length then 32 else c) = c2 → k ≤ k2 + 1 + (if c2 = c then 0 else 1) → (n : Int) ≤ n2 + 6 + (if c2 = c then 0 else 32) → ∀ v6 v7 v8 v9 v10 v11 v12, Wp X Y_J4_putVal 6 Q k2 n2 G2 259 (pvL m kc z v v6 v7 v8 v9 v10 v11 v12) [] := by
    intro hz G2 c2 k2 n2 h2 hF he hk2 hn2 v6 v7 v8 v9 v10 v11 v12
    have hcap : capP c E z = if (E.length : Int) + 1 ≤ c2 / 4 * 3 then c2 else 2 * c2 := by
      unfold capP
      rw [if_neg hz]
      simp only [c0, if_false]
      rw [he]
    have hc2 : isCap c2 := by rw [← he]; split <;> omega
    have hE2 : (E.length : Int) ≤ c2 / 4 * 3 := by rw [← he]; split <;> omega
    have hlev2 := hlev c2 hc2
    have hll : c2 = c ∨ (c = 16 ∧ c2 = 32) := by
      rw [← he]; split
      · exact Or.inr ⟨by omega, rfl⟩
      · exact Or.inl rfl
    have hl16 : lev 16 = 1 := rfl
    have hl32 : lev 32 = 2 := rfl
    rw [hcap] at hk1 hn1
    have hb : ((E.length : Int) + 1 ≤ c2 / 4 * 3) ∨ (¬ (E.length : Int) + 1 ≤ c2 / 4 * 3 ∧ c2 ≠ 256) := by omega
    refine pv_new h2 hz hE2 ?_ ?_ (fun G3 g1 g2 g3 => hQ _ _ ⟨by rw [hnot hz]; rfl, ⟨_, putR.app (a := gs G) hz, ?_⟩, ?_⟩) _ _ _ _ _ _ _
    · rcases hll with rfl | ⟨rfl, rfl⟩
      · rcases hb with hb | ⟨hb, hb2⟩
        · exact Or.inr hb
        · rw [if_neg hb] at hk1
          rw [if_pos rfl] at hk2
          exact Or.inl (by omega)
      · exact Or.inr (by omega)
    · rcases hll with rfl | ⟨rfl, rfl⟩
      · rcases hb with hb | ⟨hb, hb2⟩
        · exact Or.inl hb
        · rw [if_neg hb] at hn1
          rw [if_pos rfl] at hn2
          exact Or.inr (by omega)
      · exact Or.inl (by omega)
    · rw [hcap]
      have := hF.1
      have := g2.1
      exact g1.mono (fun a _ q => xt_xt (by omega) (by omega) a q)
    · refine hF.trans g2 (fun a ha q => ?_)
      rcases q with q | q
      · exact q.1
      · omega
  have hk1' : z ∉ E.map ek → 1 ≤ k ∧ 6 ≤ n := fun hz => by
    have := capP_b (E := E) (c := c) (Or.inr hc) (z := z) (by omega)
    have hm : lev c ≤ lev (capP c E z) := by
      have h1 := this.1
      unfold lev
      rcases this.2 with h | h
      · omega
      · rcases hc with rfl | rfl | rfl | rfl | rfl <;> rcases h with h | h | h | h | h <;> rw [h] <;> simp <;> omega
    omega
  have hgl : ((gl G tab : Nat) : Int) = c := by omega
  have hcn := hcm
  have hnewA : z ∉ E.map ek → ∀ (B0 : List lE) (ex : lE) (G1 : gH), bkt E c (z % c) = B0 ++ [ex] → NN G G1 m z kc v (E.map ea) → ∀ v11, Wp X Y_J4_putVal 6 Q (k - 1) (n - 6) (gput G1 (ea ex) 3 (.ref (gs G))) 158 (pvL m kc z v (some (.ref tab)) (some (.ref (ea ex))) (some (.int (iI c))) (some (.int (iI (z % c)))) (some .null) v11 (some (.int (iI B0.length)))) [] := by
    intro hz B0 ex G1 hB hN v11
    have hkn := hk1' hz
    have hap := (hL.i c0).app hN hk hz hv (Or.inr ⟨B0, ex, hB, rfl⟩)
    have hbl : (bkt E c (z % c)).length = B0.length + 1 := by rw [hB]; simp
    have hbl2 : (bkt E c (z % c)).length ≤ E.length := List.length_filter_le _ _
    generalize gput G1 (ea ex) 3 (.ref (gs G)) = G2 at hap
    by_cases h7 : 7 ≤ B0.length
    · have hc16 : c = 16 := by
        by_cases h : c = 16
        · exact h
        · have := bkt_len (b := z % c) hc h n3 b2
          omega
      subst hc16
      obtain ⟨ap1, ap2, ap3, ap4⟩ := hap
      have hm2 := ap1.1.2.2
      have h7' : ¬ (B0.length : Int) < 7 := by omega
      have hE12 : (E.length : Int) ≤ 12 := hEl
      have hcap : capP 16 E z = 32 := by
        unfold capP
        rw [if_neg hz]
        have h8 : 8 ≤ (bkt E 16 (z % 16)).length := by omega
        simp only [show ¬ (16 : Int) = 0 by decide, if_false, h8, and_self, if_true]
        rw [if_pos (by omega)]
      rw [hcap] at hk1 hn1
      have hl16 : lev 16 = 1 := rfl
      have hl32 : lev 32 = 2 := rfl
      refine excS rfl 172 12 _ _ _ _ _ _ ?_
      simp (maxSteps := 1000000) (disch := first | omega | (simp only [gs_new, gs_put]; omega) | fail) only [exC, Nat.reduceAdd, Nat.reduceSub, Nat.reduceMul, Nat.reduceLeDiff, Nat.reduceLT, Nat.reduceEqDiff, Nat.reduceBEq, Int.reduceAdd, Int.reduceSub, Int.reduceMul, Int.reduceNeg, Int.reduceToNat, Int.reduceLE, Int.reduceLT, Int.reduceEq, Int.reduceGE, Int.reduceGT, ↓reduceIte, reduceCtorEq, gm_pe, gm_pn, gc_put, gl_put, gs_put, exists_eq_left', exists_eq_left, gs_new, gc_ne, gc_nn, gl_ne, gl_nn, gm_ne, gm_nn, cd_J4_putVal, iI_rt, h7', hm2]
      try simp only [iteP]
      refine gCall.of (h_treeify (X := X) (z := iI z) ap1 (ap4.trans ht)) (by decide) (by first | omega | decide) (by first | omega | decide) ?_
      rintro r G3 ⟨rfl, w1, w2, w3⟩
      have hz2 := ap2.1
      have hz3 := w2.1
      have hr := hnew259 hz G3 32 (k - 1 - 1) (n - 6 - 32) (w1.fr (T := fun _ => False) Fr.refl (fun _ _ _ q => q) (fun a _ q => xt_xt hz2 hz3 a q)) (ap2.trans w2 (fun a ha q => by
        rcases q with q | q
        · exact q.1
        · omega)) (by rw [if_pos ⟨rfl, by omega⟩]) (by rw [if_neg (by decide)]; omega) (by rw [if_neg (by decide)]; omega)
      refine excS rfl 259 12 _ _ _ _ _ _ ?_
      simp (maxSteps := 1000000) (disch := first | omega | (simp only [gs_new, gs_put]; omega) | fail) only [exC, Nat.reduceAdd, Nat.reduceSub, Nat.reduceMul, Nat.reduceLeDiff, Nat.reduceLT, Nat.reduceEqDiff, Nat.reduceBEq, Int.reduceAdd, Int.reduceSub, Int.reduceMul, Int.reduceNeg, Int.reduceToNat, Int.reduceLE, Int.reduceLT, Int.reduceEq, Int.reduceGE, Int.reduceGT, ↓reduceIte, reduceCtorEq, gm_pe, gm_pn, gc_put, gl_put, gs_put, exists_eq_left', exists_eq_left, gs_new, gc_ne, gc_nn, gl_ne, gl_nn, gm_ne, gm_nn, cd_J4_putVal]
      try simp only [iteP]
      exact (hr none none none none none none none).wk' _ (by simp [wkL])
    · have hr := hnew259 hz G2 c (k - 1) (n - 6) hap.1 hap.2.1 (by rw [if_neg]; intro q; omega) (by rw [if_pos rfl]; omega) (by rw [if_pos rfl]; omega)
      have h7' : (B0.length : Int) < 7 := by omega
      refine excS rfl 259 12 _ _ _ _ _ _ ?_
      simp (maxSteps := 1000000) (disch := first | omega | (simp only [gs_new, gs_put]; omega) | fail) only [exC, Nat.reduceAdd, Nat.reduceSub, Nat.reduceMul, Nat.reduceLeDiff, Nat.reduceLT, Nat.reduceEqDiff, Nat.reduceBEq, Int.reduceAdd, Int.reduceSub, Int.reduceMul, Int.reduceNeg, Int.reduceToNat, Int.reduceLE, Int.reduceLT, Int.reduceEq, Int.reduceGE, Int.reduceGT, ↓reduceIte, reduceCtorEq, gm_pe, gm_pn, gc_put, gl_put, gs_put, exists_eq_left', exists_eq_left, gs_new, gc_ne, gc_nn, gl_ne, gl_nn, gm_ne, gm_nn, cd_J4_putVal, iI_rt, h7']
      try simp only [iteP]
      exact (hr none none none none none none none).wk' _ (by simp [wkL])
  have hkv : kill2 (some v) = some v := by
    cases v with
    | ref a => rfl
    | null => rfl
    | _ => exact hv.elim
  have hb0 : 0 ≤ z % c := hcm.1
  have hcall := h_newNode (X := X) (kc := kc) (z := z) (L := E.map ea) ⟨a1.2.1, hm⟩ h11 hnE nd b3 b4 hv
  cases hB : bkt E c (z % c) with
  | nil =>
    have hzE : z ∉ E.map ek := fun q => by
      obtain ⟨e', he', hq⟩ := List.mem_map.mp q
      have : e' ∈ bkt E c (z % c) := List.mem_filter.mpr ⟨he', by simp [hq]⟩
      rw [hB] at this; cases this
    have hv0 : gm G tab (z % c).toNat = .null := by rw [hB] at hch; exact hch
    have hkn := hk1' hzE
    have key : ∀ G1, NN G G1 m z kc v (E.map ea) → ∀ v7 v10 v11 v12, Wp X Y_J4_putVal 6 Q (k - 1) (n - 6) G1 59 (pvL m kc z v (some (.ref tab)) v7 (some (.int (iI c))) (some (.int (iI (z % c)))) v10 v11 v12) [.ref (gs G), .int (iI (z % c)), .ref tab] := by
      intro G1 hN v7 v10 v11 v12
      have hap := (hL.i c0).app hN hk hzE hv (Or.inl ⟨hB, tab, ht, rfl⟩)
      have hr := hnew259 hzE _ c (k - 1) (n - 6) hap.1 hap.2.1 (by rw [hB, if_neg]; intro q; simp at q) (by rw [if_pos rfl]; omega) (by rw [if_pos rfl]; omega)
      have t1 : gc G1 tab = 105 := by rw [(hN.2.1 _ q6).1]; exact q7
      have t2 : gl G1 tab = c.toNat := by rw [(hN.2.1 _ q6).2]; exact q8
      generalize z % c = i at hr hb0 hcn
      have t3 : i.toNat < gl G1 tab := by omega
      refine excS rfl 259 3 _ _ _ _ _ _ ?_
      simp (maxSteps := 1000000) (disch := first | omega | (simp only [gs_new, gs_put]; omega) | fail) only [exC, Nat.reduceAdd, Nat.reduceSub, Nat.reduceMul, Nat.reduceLeDiff, Nat.reduceLT, Nat.reduceEqDiff, Nat.reduceBEq, Int.reduceAdd, Int.reduceSub, Int.reduceMul, Int.reduceNeg, Int.reduceToNat, Int.reduceLE, Int.reduceLT, Int.reduceEq, Int.reduceGE, Int.reduceGT, ↓reduceIte, reduceCtorEq, gm_pe, gm_pn, gc_put, gl_put, gs_put, exists_eq_left', exists_eq_left, gs_new, gc_ne, gc_nn, gl_ne, gl_nn, gm_ne, gm_nn, cd_J4_putVal, t1, iI_rt, hN.2.2.1, sg_node]
      try simp only [iteP]
      exact ⟨hb0, t3, (hr none none none none none none none).wk' _ (by simp [wkL])⟩
    generalize z % c = i at key hb0 hcn hv0 hand
    cases v <;> try exact hv.elim
    all_goals
      refine excS rfl 44 11 _ _ _ _ _ _ ?_
      simp (maxSteps := 1000000) (disch := first | omega | (simp only [gs_new, gs_put]; omega) | fail) only [exC, Nat.reduceAdd, Nat.reduceSub, Nat.reduceMul, Nat.reduceLeDiff, Nat.reduceLT, Nat.reduceEqDiff, Nat.reduceBEq, Int.reduceAdd, Int.reduceSub, Int.reduceMul, Int.reduceNeg, Int.reduceToNat, Int.reduceLE, Int.reduceLT, Int.reduceEq, Int.reduceGE, Int.reduceGT, ↓reduceIte, reduceCtorEq, gm_pe, gm_pn, gc_put, gl_put, gs_put, exists_eq_left', exists_eq_left, gs_new, gc_ne, gc_nn, gl_ne, gl_nn, gm_ne, gm_nn, cd_J4_putVal, hand, q7, iI_rt, hv0]
      try simp only [iteP]
      refine ⟨hb0, by omega, ?_⟩
      refine exS rfl 10 _ _ _ _ _ _ ?_
      simp (maxSteps := 1000000) (disch := first | omega | (simp only [gs_new, gs_put]; omega) | fail) only [exC, Nat.reduceAdd, Nat.reduceSub, Nat.reduceMul, Nat.reduceLeDiff, Nat.reduceLT, Nat.reduceEqDiff, Nat.reduceBEq, Int.reduceAdd, Int.reduceSub, Int.reduceMul, Int.reduceNeg, Int.reduceToNat, Int.reduceLE, Int.reduceLT, Int.reduceEq, Int.reduceGE, Int.reduceGT, ↓reduceIte, reduceCtorEq, gm_pe, gm_pn, gc_put, gl_put, gs_put, exists_eq_left', exists_eq_left, gs_new, gc_ne, gc_nn, gl_ne, gl_nn, gm_ne, gm_nn, cd_J4_putVal, hm]
      try simp only [iteP]
      refine gCall.of (hcall) (by decide) (by first | omega | decide) (by first | omega | decide) ?_
      rintro r G1 ⟨rfl, hN⟩
      exact key G1 hN _ _ _ _
  | cons e F =>
    have heB : e ∈ bkt E c (z % c) := by rw [hB]; simp
    have heE := (List.mem_filter.mp heB).1
    obtain ⟨w1, w2, w3, w4, ⟨ke, w5, w7⟩, w8⟩ := b1 e heE
    have hw := w7.2.2.2
    have hv0 : gm G tab (z % c).toNat = .ref (ea e) := by rw [hB] at hch; exact hch.1
    have hL2 := pv_loop (Q := Q) (k := k) (n := n) (v := v) (tab := tab) hL hc hk hv ht hfound hnewA hk1' F [] e hB
    by_cases hze : ek e = z
    · have hf := hfound e heE hze none none none
      generalize z % c = i at hf hb0 hcn hv0 hand
      refine excS rfl 44 11 _ _ _ _ _ _ ?_
      simp (maxSteps := 1000000) (disch := first | omega | (simp only [gs_new, gs_put]; omega) | fail) only [exC, Nat.reduceAdd, Nat.reduceSub, Nat.reduceMul, Nat.reduceLeDiff, Nat.reduceLT, Nat.reduceEqDiff, Nat.reduceBEq, Int.reduceAdd, Int.reduceSub, Int.reduceMul, Int.reduceNeg, Int.reduceToNat, Int.reduceLE, Int.reduceLT, Int.reduceEq, Int.reduceGE, Int.reduceGT, ↓reduceIte, reduceCtorEq, gm_pe, gm_pn, gc_put, gl_put, gs_put, exists_eq_left', exists_eq_left, gs_new, gc_ne, gc_nn, gl_ne, gl_nn, gm_ne, gm_nn, cd_J4_putVal, hand, q7, iI_rt, hv0, hkv]
      try simp only [iteP]
      refine ⟨hb0, by omega, ?_⟩
      refine excS rfl 222 24 _ _ _ _ _ _ ?_
      simp (maxSteps := 1000000) (disch := first | omega | (simp only [gs_new, gs_put]; omega) | fail) only [exC, Nat.reduceAdd, Nat.reduceSub, Nat.reduceMul, Nat.reduceLeDiff, Nat.reduceLT, Nat.reduceEqDiff, Nat.reduceBEq, Int.reduceAdd, Int.reduceSub, Int.reduceMul, Int.reduceNeg, Int.reduceToNat, Int.reduceLE, Int.reduceLT, Int.reduceEq, Int.reduceGE, Int.reduceGT, ↓reduceIte, reduceCtorEq, gm_pe, gm_pn, gc_put, gl_put, gs_put, exists_eq_left', exists_eq_left, gs_new, gc_ne, gc_nn, gl_ne, gl_nn, gm_ne, gm_nn, cd_J4_putVal, w3, w4, w5, hze, iI_rt, hk.2.1, hkv]
      try simp only [iteP]
      refine ⟨fun _ => hf.wk' _ (by simp [wkL]), fun _ => ?_⟩
      rw [hze] at w7
      refine gCall.of (c_equals (X := X) hk w7) (by decide) (by first | omega | decide) (by first | omega | decide) ?_
      rintro r G' ⟨rfl, rfl⟩
      rw [if_pos rfl]
      refine excS rfl 222 6 _ _ _ _ _ _ ?_
      simp (maxSteps := 1000000) (disch := first | omega | (simp only [gs_new, gs_put]; omega) | fail) only [exC, Nat.reduceAdd, Nat.reduceSub, Nat.reduceMul, Nat.reduceLeDiff, Nat.reduceLT, Nat.reduceEqDiff, Nat.reduceBEq, Int.reduceAdd, Int.reduceSub, Int.reduceMul, Int.reduceNeg, Int.reduceToNat, Int.reduceLE, Int.reduceLT, Int.reduceEq, Int.reduceGE, Int.reduceGT, ↓reduceIte, reduceCtorEq, gm_pe, gm_pn, gc_put, gl_put, gs_put, exists_eq_left', exists_eq_left, gs_new, gc_ne, gc_nn, gl_ne, gl_nn, gm_ne, gm_nn, cd_J4_putVal, iI_rt, hkv]
      try simp only [iteP]
      exact hf.wk' _ (by simp [wkL])
    · have hl := hL2 (by simpa using fun q => hze q.symm) none none
      generalize z % c = i at hl hb0 hcn hv0 hand
      refine excS rfl 44 11 _ _ _ _ _ _ ?_
      simp (maxSteps := 1000000) (disch := first | omega | (simp only [gs_new, gs_put]; omega) | fail) only [exC, Nat.reduceAdd, Nat.reduceSub, Nat.reduceMul, Nat.reduceLeDiff, Nat.reduceLT, Nat.reduceEqDiff, Nat.reduceBEq, Int.reduceAdd, Int.reduceSub, Int.reduceMul, Int.reduceNeg, Int.reduceToNat, Int.reduceLE, Int.reduceLT, Int.reduceEq, Int.reduceGE, Int.reduceGT, ↓reduceIte, reduceCtorEq, gm_pe, gm_pn, gc_put, gl_put, gs_put, exists_eq_left', exists_eq_left, gs_new, gc_ne, gc_nn, gl_ne, gl_nn, gm_ne, gm_nn, cd_J4_putVal, hand, q7, iI_rt, hv0, hkv]
      try simp only [iteP]
      refine ⟨hb0, by omega, ?_⟩
      refine excS rfl 106 24 _ _ _ _ _ _ ?_
      simp (maxSteps := 1000000) (disch := first | omega | (simp only [gs_new, gs_put]; omega) | fail) only [exC, Nat.reduceAdd, Nat.reduceSub, Nat.reduceMul, Nat.reduceLeDiff, Nat.reduceLT, Nat.reduceEqDiff, Nat.reduceBEq, Int.reduceAdd, Int.reduceSub, Int.reduceMul, Int.reduceNeg, Int.reduceToNat, Int.reduceLE, Int.reduceLT, Int.reduceEq, Int.reduceGE, Int.reduceGT, ↓reduceIte, reduceCtorEq, gm_pe, gm_pn, gc_put, gl_put, gs_put, exists_eq_left', exists_eq_left, gs_new, gc_ne, gc_nn, gl_ne, gl_nn, gm_ne, gm_nn, cd_J4_putVal, w3, w4, hze, iI_rt, hkv]
      try simp only [iteP]
      refine w_instNo ⟨w3, q1020⟩ dJ4_putVal_106 ?_
      refine excS rfl 134 6 _ _ _ _ _ _ ?_
      simp (maxSteps := 1000000) (disch := first | omega | (simp only [gs_new, gs_put]; omega) | fail) only [exC, Nat.reduceAdd, Nat.reduceSub, Nat.reduceMul, Nat.reduceLeDiff, Nat.reduceLT, Nat.reduceEqDiff, Nat.reduceBEq, Int.reduceAdd, Int.reduceSub, Int.reduceMul, Int.reduceNeg, Int.reduceToNat, Int.reduceLE, Int.reduceLT, Int.reduceEq, Int.reduceGE, Int.reduceGT, ↓reduceIte, reduceCtorEq, gm_pe, gm_pn, gc_put, gl_put, gs_put, exists_eq_left', exists_eq_left, gs_new, gc_ne, gc_nn, gl_ne, gl_nn, gm_ne, gm_nn, cd_J4_putVal, hkv, iI_rt]
      try simp only [iteP]
      exact hl.wk' _ (by simp [wkL])
end
