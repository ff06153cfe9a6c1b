/-! LINKED HASH MAPS: put, walked -/
set_option maxRecDepth 100000
set_option maxHeartbeats 2000000
/-- a key's value is laid: the keys, the values -/
def putR (E : List lE) (z : Int) (v : Value) (E' : List lE) : Prop := (E'.map ek = if z ∈ E.map ek then E.map ek else E.map ek ++ [z]) ∧ ∀ w, (lkp E' w).map ev = if w = z then some v else (lkp E w).map ev
/-- the capacity of a map with a key more -/
def capP (c : Int) (E : List lE) (z : Int) : Int :=
  if z ∈ E.map ek then c else
  let c1 := if c = 0 then 16 else c
  let c2 := if c1 = 16 ∧ 8 ≤ (bkt E c1 (z % c1)).length then 32 else c1
  if (E.length : Int) + 1 ≤ c2 / 4 * 3 then c2 else 2 * c2
/-- how often a table was made -/
def lev (c : Int) : Int := if c = 0 then 0 else if c = 16 then 1 else if c = 32 then 2 else if c = 64 then 3 else if c = 128 then 4 else 5
theorem lkp_map {E : List lE} {f : lE → lE} (hf : ∀ e, ek (f e) = ek e) {w : Int} : lkp (E.map f) w = (lkp E w).map f := by
  induction E with
  | nil => rfl
  | cons e t ih =>
    rw [List.map_cons, lkp_cons, lkp_cons, hf]
    split
    · rfl
    · exact ih
theorem lkp_app {E : List lE} {e : lE} {w : Int} (h : ek e ∉ E.map ek) : lkp (E ++ [e]) w = if w = ek e then some e else lkp E w := by
  induction E with
  | nil =>
    rw [List.nil_append, lkp_cons]
    by_cases h : ek e = w
    · rw [if_pos h, if_pos h.symm]
    · rw [if_neg h, if_neg (fun q => h q.symm)]
  | cons a t ih =>
    rw [List.map_cons, List.mem_cons, not_or] at h
    rw [List.cons_append, lkp_cons, lkp_cons, ih h.2]
    by_cases h1 : ek a = w
    · rw [if_pos h1, if_pos h1, if_neg (fun q => h.1 (by rw [← q, h1]))]
    · rw [if_neg h1, if_neg h1]
theorem putR.app {E : List lE} {z : Int} {a : Nat} {v : Value} (h : z ∉ E.map ek) : putR E z v (E ++ [(z, a, v)]) := by
  refine ⟨by rw [if_neg h, List.map_append]; rfl, fun w => ?_⟩
  rw [lkp_app (e := (z, a, v)) h]
  show Option.map ev (if w = z then _ else _) = _
  split <;> rfl
def setV (z : Int) (v : Value) (e : lE) : lE := if ek e = z then (ek e, ea e, v) else e
theorem setV_k {z : Int} {v : Value} (e : lE) : ek (setV z v e) = ek e ∧ ea (setV z v e) = ea e := by unfold setV; split <;> exact ⟨rfl, rfl⟩
theorem putR.set {E : List lE} {z : Int} {v : Value} (h : z ∈ E.map ek) : putR E z v (E.map (setV z v)) := by
  refine ⟨?_, fun w => ?_⟩
  · rw [if_pos h, List.map_map]
    exact List.map_congr_left (fun e _ => (setV_k e).1)
  · rw [lkp_map (fun e => (setV_k e).1)]
    cases hw : lkp E w with
    | none =>
      rw [if_neg (fun q => lkp_none.mp hw (by rw [q]; exact h))]; rfl
    | some e =>
      have := (lkp_mem hw).2
      show some (ev (setV z v e)) = _
      unfold setV
      rw [this]
      by_cases hz : w = z
      · rw [if_pos hz, if_pos hz]; rfl
      · rw [if_neg hz, if_neg hz]; rfl
/-- a value is overwritten -/
theorem LM.setv {G : gH} {S : Nat → Prop} {m : Nat} {c z : Int} {v : Value} {E : List lE} {e0 : lE} (h : LM G S m c E) (he : e0 ∈ E) (hk : ek e0 = z) (hv : rfOK v) : LM (gput G (ea e0) 2 v) S m c (E.map (setV z v)) ∧ Fr S G (gput G (ea e0) 2 v) := by
  have n0 := h.node e0 he
  have hfr : Fr S G (gput G (ea e0) 2 v) := Fr.refl.put (Or.inl ⟨n0.1, by rw [n0.2.2.1]; decide⟩)
  have n3 : ∀ e ∈ E, nod3 G e := fun e he => (h.node e he).n3
  obtain ⟨⟨a1, a2, a3⟩, a4, a5, a6, a7, a8, a9, b1, b2, b3, b4, b5⟩ := h
  have hm : m ≠ ea e0 := (ne_tag n0.2.2.1 a3 (by decide)).symm
  have hoff : ∀ a j, (a ≠ ea e0 ∨ j ≠ 2) → gm (gput G (ea e0) 2 v) a j = gm G a j := fun a j hj => gm_pn (fun z => by rcases hj with q | q; exact q z.1; exact q z.2)
  have hb : ∀ c b, (bkt (E.map (setV z v)) c b).map ea = (bkt E c b).map ea := fun c b => by
    unfold bkt
    rw [List.filter_map, List.map_map]
    have : ((fun e => decide (ek e % c = b)) ∘ setV z v) = (fun e => decide (ek e % c = b)) := by
      funext e; show decide (ek (setV z v e) % c = b) = _; rw [(setV_k e).1]
    rw [this]
    exact List.map_congr_left (fun e _ => (setV_k e).2)
  have hE : (E.map (setV z v)).map ea = E.map ea := by rw [List.map_map]; exact List.map_congr_left (fun e _ => (setV_k e).2)
  have hK : (E.map (setV z v)).map ek = E.map ek := by rw [List.map_map]; exact List.map_congr_left (fun e _ => (setV_k e).1)
  refine ⟨⟨⟨a1, a2, a3⟩, by rw [hoff m 2 (Or.inl hm), List.length_map]; exact a4, by rw [hoff m 3 (Or.inl hm)]; exact a5, by rw [hoff m 5 (Or.inl hm)]; exact a6, ?_, by rw [hoff m 10 (Or.inl hm)]; exact a8, by rw [hoff m 11 (Or.inl hm)]; exact a9, fun e he' => ?_, by rw [hK]; exact b2, ?_, ?_, ?_⟩, hfr⟩
  · rw [hoff m 6 (Or.inl hm)]
    refine a7.imp id ?_
    rintro ⟨ks, w1, w2, w3, w4, w5⟩
    have hk : ks ≠ ea e0 := ne_tag w3 n0.2.2.1 (by decide)
    exact ⟨ks, w1, w2, w3, by rw [hoff _ _ (Or.inl hk)]; exact w4, by rw [hoff _ _ (Or.inl hk)]; exact w5⟩
  · obtain ⟨e, he, rfl⟩ := List.mem_map.mp he'
    obtain ⟨n1, n2, n3', n4, ⟨kc, n5, n7⟩, n8, n9⟩ := b1 e he
    have hk' : kc ≠ ea e0 := ne_tag n7.2.1 n0.2.2.1 (by decide)
    have e1 := setV_k (z := z) (v := v) e
    unfold nodOK
    rw [e1.1, e1.2]
    refine ⟨n1, n2, n3', by rw [hoff _ 0 (Or.inr (by decide))]; exact n4, ⟨kc, by rw [hoff _ 1 (Or.inr (by decide))]; exact n5, n7.1, n7.2.1, by rw [hoff _ _ (Or.inl hk')]; exact n7.2.2.1, n7.2.2.2⟩, ?_⟩
    unfold setV
    by_cases hz : ek e = z
    · rw [if_pos hz]
      have : ea e = ea e0 := by
        have hinj : ∀ (l : List lE), (l.map ek).Nodup → ∀ a ∈ l, ∀ b ∈ l, ek a = ek b → a = b := by
          intro l
          induction l with
          | nil => intro _ a ha; cases ha
          | cons y t ih =>
            intro hn a ha b hb hab
            have hn' := List.nodup_cons.mp hn
            rcases List.mem_cons.mp ha with rfl | ha1 <;> rcases List.mem_cons.mp hb with rfl | hb1
            · rfl
            · exact absurd (List.mem_map.mpr ⟨b, hb1, hab.symm⟩) hn'.1
            · exact absurd (show ek b ∈ List.map ek t from List.mem_map.mpr ⟨a, ha1, hab⟩) hn'.1
            · exact ih hn'.2 a ha1 b hb1 hab
        rw [hinj E b2 e he e0 ‹e0 ∈ E› (hz.trans hk.symm)]
      rw [this, gm_pe]
      exact ⟨rfl, hv⟩
    · rw [if_neg hz]
      have : ea e ≠ ea e0 := fun q => hz (by rw [nod_key (n3 e he) (n3 e0 ‹e0 ∈ E›) q]; exact hk)
      rw [hoff _ _ (Or.inl this)]
      exact ⟨n8, n9⟩
  · rw [hoff m 8 (Or.inl hm), hE]; exact chn.congr _ _ (fun a _ => hoff a 5 (Or.inr (by decide))) b3
  · rw [hoff m 9 (Or.inl hm), hE]; exact chn.congr _ _ (fun a _ => hoff a 4 (Or.inr (by decide))) b4
  · unfold tabOK
    rw [hoff m 0 (Or.inl hm), hoff m 4 (Or.inl hm)]
    rcases b5 with ⟨q1, q2, q3⟩ | ⟨q1, q2, q3, tab, q4, q5, q6, q7, q8, q9⟩
    · rw [q2] at he; cases he
    · refine Or.inr ⟨q1, q2, by rw [List.length_map]; exact q3, tab, q4, q5, q6, q7, q8, fun b b0 b1' => ?_⟩
      rw [hoff tab _ (Or.inl (ne_tag q7 n0.2.2.1 (by decide))), hb]
      exact chn.congr _ _ (fun a _ => hoff a 3 (Or.inr (by decide))) (q9 b b0 b1')
section
variable {X : gX} {S : Nat → Prop} {G : gH} {m : Nat} {c : Int} {E : List lE}
abbrev pvL (m kc : Nat) (z : Int) (v : Value) (v6 v7 v8 v9 v10 v11 v12 : Option Value) : List (Option Value) := [some (.ref m), some (.int (iI z)), some (.ref kc), some v, some (.int (iI 0)), some (.int (iI 1)), v6, v7, v8, v9, v10, v11, v12]
/-- the end of a put: counted, grown -/
theorem pv_end {Q : Option Value → gH → Prop} {k n kc : Nat} {z : Int} {v : Value} {e0 : lE} (h : LMi G S m c (E ++ [e0]) E.length) (hEl : (E.length : Int) ≤ c / 4 * 3) (hk : (if ((E.length : Int) + 1 ≤ c / 4 * 3) then 0 else 1) ≤ k) (hn : ¬ ((E.length : Int) + 1 ≤ c / 4 * 3) → (2 * c).toNat ≤ n)
    (hQ : ∀ G', LM G' (xt S G G') m (if (E.length : Int) + 1 ≤ c / 4 * 3 then c else 2 * c) (E ++ [e0]) → Fr S G G' → gs G' ≤ gs G + 1 → Q (some .null) G') :
    ∀ v6 v7 v8 v9 v10 v11 v12, Wp X Y_J4_putVal 6 Q k n G 259 (pvL m kc z v v6 v7 v8 v9 v10 v11 v12) [] := by
  intro v6 v7 v8 v9 v10 v11 v12
  obtain ⟨⟨a1, a2, a3⟩, a4, ⟨mc, a5⟩, a6, a7, a8, a9, b1, b2, b3, b4, q1, q2, tab, q4, q5, q6, q7, q8, q9⟩ := id h
  have hlen := keys_len (fun e he => (b1 e he).n3) b2
  rw [List.length_append, List.length_singleton] at hlen
  have hL : ((E ++ [e0]).length : Int) = (E.length : Int) + 1 := by simp
  have hre := h.remake (G' := gput (gput G m 3 (.int (mc + iI 1))) m 2 (.int (iI ((E.length : Int) + 1)))) (sz' := (E.length : Int) + 1) rfl rfl rfl (fun a ha => by funext j; rw [gm_pn (fun z => ha z.1), gm_pn (fun z => ha z.1)]) (fun j j2 j3 => by rw [gm_pn (fun z => j2 z.2), gm_pn (fun z => j3 z.2)]) gm_pe ⟨_, by rw [gm_pn (by omega), gm_pe]⟩
  have hF0 : Fr S G (gput (gput G m 3 (.int (mc + iI 1))) m 2 (.int (iI ((E.length : Int) + 1)))) := (Fr.refl.put (Or.inl ⟨a1, by rw [a3]; decide⟩)).put (Or.inl ⟨a1, by rw [gc_put, a3]; decide⟩)
  have e8 : gm G m 8 = hdv ((E ++ [e0]).map ea) := b3.hd
  obtain ⟨b, hb, hbt⟩ : ∃ b, hdv ((E ++ [e0]).map ea) = .ref b ∧ gc G b = 24 := by
    cases hE : E with
    | nil => exact ⟨ea e0, rfl, (b1 e0 (by simp)).2.2.1⟩
    | cons y t => exact ⟨ea y, rfl, (b1 y (by rw [hE]; simp)).2.2.1⟩
  have hE0 : 0 ≤ (E.length : Int) := by omega
  have hgs : gs (gput (gput G m 3 (.int (mc + iI 1))) m 2 (.int (iI ((E.length : Int) + 1)))) = gs G := rfl
  have e8' : gm (gput (gput G m 3 (.int (mc + iI 1))) m 2 (.int (iI ((E.length : Int) + 1)))) m 8 = .ref b := by rw [gm_pn (by omega), gm_pn (by omega), e8, hb]
  -- the very end
  have fin : ∀ (k n : Nat) (G1 : gH) (S1 : Nat → Prop) (c1 : Int) (v6 v7 v8 v9 v10 v11 v12 : Option Value), LM G1 S1 m c1 (E ++ [e0]) → Q (some .null) G1 → Wp X Y_J4_putVal 6 Q k n G1 292 (pvL m kc z v v6 v7 v8 v9 v10 v11 v12) [] := by
    intro k n G1 S1 c1 v6 v7 v8 v9 v10 v11 v12 h1 hq
    obtain ⟨b', hb', hbt'⟩ : ∃ b, gm G1 m 8 = .ref b ∧ gc G1 b = 24 := by
      have e8 := h1.2.2.2.2.2.2.2.2.2.1.hd
      cases hE : E with
      | nil => rw [hE] at e8; exact ⟨ea e0, e8, (h1.node e0 (by simp)).2.2.1⟩
      | cons y t => rw [hE] at e8; exact ⟨ea y, e8, (h1.node y (by rw [hE]; simp)).2.2.1⟩
    refine exS rfl 3 _ _ _ _ _ _ ?_
    simp (maxSteps := 1000000) (disch := first | omega | (simp only [gs_new, gs_put]; omega) | fail) only [exC, Nat.reduceAdd, Nat.reduceSub, Nat.reduceMul, Nat.reduceLeDiff, Nat.reduceLT, Nat.reduceEqDiff, Nat.reduceBEq, Int.reduceAdd, Int.reduceSub, Int.reduceMul, Int.reduceNeg, Int.reduceToNat, Int.reduceLE, Int.reduceLT, Int.reduceEq, Int.reduceGE, Int.reduceGT, ↓reduceIte, reduceCtorEq, gm_pe, gm_pn, gc_put, gl_put, gs_put, exists_eq_left', exists_eq_left, gs_new, gc_ne, gc_nn, gl_ne, gl_nn, gm_ne, gm_nn, cd_J4_putVal, h1.1.2.2]
    try simp only [iteP]
    refine gCall.of (h_afterInsertion (X := X) h1.1.2.2 hb' hbt') (by decide) (by first | omega | decide) (by first | omega | decide) ?_
    rintro r G' ⟨rfl, rfl⟩
    refine exS rfl 3 _ _ _ _ _ _ ?_
    simp (maxSteps := 1000000) (disch := first | omega | (simp only [gs_new, gs_put]; omega) | fail) only [exC, Nat.reduceAdd, Nat.reduceSub, Nat.reduceMul, Nat.reduceLeDiff, Nat.reduceLT, Nat.reduceEqDiff, Nat.reduceBEq, Int.reduceAdd, Int.reduceSub, Int.reduceMul, Int.reduceNeg, Int.reduceToNat, Int.reduceLE, Int.reduceLT, Int.reduceEq, Int.reduceGE, Int.reduceGT, ↓reduceIte, reduceCtorEq, gm_pe, gm_pn, gc_put, gl_put, gs_put, exists_eq_left', exists_eq_left, gs_new, gc_ne, gc_nn, gl_ne, gl_nn, gm_ne, gm_nn, cd_J4_putVal]
    try simp only [iteP]
    exact hq
  by_cases hth : (E.length : Int) + 1 ≤ c / 4 * 3
  · rw [if_pos hth] at hQ hk
    refine excS rfl 292 40 _ _ _ _ _ _ ?_
    simp (maxSteps := 1000000) (disch := first | omega | (simp only [gs_new, gs_put]; omega) | fail) only [exC, Nat.reduceAdd, Nat.reduceSub, Nat.reduceMul, Nat.reduceLeDiff, Nat.reduceLT, Nat.reduceEqDiff, Nat.reduceBEq, Int.reduceAdd, Int.reduceSub, Int.reduceMul, Int.reduceNeg, Int.reduceToNat, Int.reduceLE, Int.reduceLT, Int.reduceEq, Int.reduceGE, Int.reduceGT, ↓reduceIte, reduceCtorEq, gm_pe, gm_pn, gc_put, gl_put, gs_put, exists_eq_left', exists_eq_left, gs_new, gc_ne, gc_nn, gl_ne, gl_nn, gm_ne, gm_nn, cd_J4_putVal, a3, a5, a4, q2, iI_rt, hth]
    try simp only [iteP]
    generalize gput (gput G m 3 (.int (mc + iI 1))) m 2 (.int (iI ((E.length : Int) + 1))) = G1 at hre hF0 hgs
    have hre' : LMi G1 S m c (E ++ [e0]) ((E ++ [e0]).length : Int) := by rw [hL]; exact hre
    have hlm := hre'.lm (by rw [hL]; exact hth)
    exact fin k n G1 S c _ _ _ _ _ _ _ hlm (hQ _ (hlm.mono (fun a ha q => Or.inl ⟨q, by omega⟩)) hF0 (by omega))
  · rw [if_neg hth] at hQ hk
    have hn := hn hth
    have hc4 : isCap4 c := by omega
    refine excS rfl 287 40 _ _ _ _ _ _ ?_
    simp (maxSteps := 1000000) (disch := first | omega | (simp only [gs_new, gs_put]; omega) | fail) only [exC, Nat.reduceAdd, Nat.reduceSub, Nat.reduceMul, Nat.reduceLeDiff, Nat.reduceLT, Nat.reduceEqDiff, Nat.reduceBEq, Int.reduceAdd, Int.reduceSub, Int.reduceMul, Int.reduceNeg, Int.reduceToNat, Int.reduceLE, Int.reduceLT, Int.reduceEq, Int.reduceGE, Int.reduceGT, ↓reduceIte, reduceCtorEq, gm_pe, gm_pn, gc_put, gl_put, gs_put, exists_eq_left', exists_eq_left, gs_new, gc_ne, gc_nn, gl_ne, gl_nn, gm_ne, gm_nn, cd_J4_putVal, a3, a5, a4, q2, iI_rt, hth]
    try simp only [iteP]
    generalize gput (gput G m 3 (.int (mc + iI 1))) m 2 (.int (iI ((E.length : Int) + 1))) = G1 at hre hF0 hgs
    refine exS rfl 3 _ _ _ _ _ _ ?_
    simp (maxSteps := 1000000) (disch := first | omega | (simp only [gs_new, gs_put]; omega) | fail) only [exC, Nat.reduceAdd, Nat.reduceSub, Nat.reduceMul, Nat.reduceLeDiff, Nat.reduceLT, Nat.reduceEqDiff, Nat.reduceBEq, Int.reduceAdd, Int.reduceSub, Int.reduceMul, Int.reduceNeg, Int.reduceToNat, Int.reduceLE, Int.reduceLT, Int.reduceEq, Int.reduceGE, Int.reduceGT, ↓reduceIte, reduceCtorEq, gm_pe, gm_pn, gc_put, gl_put, gs_put, exists_eq_left', exists_eq_left, gs_new, gc_ne, gc_nn, gl_ne, gl_nn, gm_ne, gm_nn, cd_J4_putVal, hre.1.2.2]
    try simp only [iteP]
    refine gCall.of (h_resizeI (X := X) hre hc4) (by decide) (by first | omega | decide) (by first | omega | decide) ?_
    rintro r G2 ⟨⟨t, rfl⟩, w1, w2, w3⟩
    have w1' : LMi G2 (xt S G1 G2) m (2 * c) (E ++ [e0]) ((E ++ [e0]).length : Int) := by rw [hL]; exact w1
    have hF2 := hF0.trans w2 (fun _ _ q => q)
    have hlm := w1'.lm (by rw [hL]; omega)
    refine excS rfl 292 3 _ _ _ _ _ _ ?_
    simp (maxSteps := 1000000) (disch := first | omega | (simp only [gs_new, gs_put]; omega) | fail) only [exC, Nat.reduceAdd, Nat.reduceSub, Nat.reduceMul, Nat.reduceLeDiff, Nat.reduceLT, Nat.reduceEqDiff, Nat.reduceBEq, Int.reduceAdd, Int.reduceSub, Int.reduceMul, Int.reduceNeg, Int.reduceToNat, Int.reduceLE, Int.reduceLT, Int.reduceEq, Int.reduceGE, Int.reduceGT, ↓reduceIte, reduceCtorEq, gm_pe, gm_pn, gc_put, gl_put, gs_put, exists_eq_left', exists_eq_left, gs_new, gc_ne, gc_nn, gl_ne, gl_nn, gm_ne, gm_nn, cd_J4_putVal]
    try simp only [iteP]
    refine fin _ _ G2 _ (2 * c) _ _ _ _ _ _ _ hlm (hQ _ (hlm.mono (fun a ha q => ?_)) hF2 (by omega))
    rcases q with q | q
    · exact Or.inl ⟨q.1, by omega⟩
    · exact Or.inr ⟨by omega, q.2⟩
/-- a key that is there: its value is overwritten -/
theorem pv_found {Q : Option Value → gH → Prop} {k n kc : Nat} {z : Int} {v : Value} {e : lE} (h : LM G S m c E) (he : e ∈ E) (hk : ek e = z) (hv : rfOK v)
    (hQ : ∀ G', LM G' S m c (E.map (setV z v)) → Fr S G G' → gs G' = gs G → Q (some (ev e)) G') :
    ∀ v6 v7 v8 v9 v11 v12, Wp X Y_J4_putVal 6 Q k n G 222 (pvL m kc z v v6 v7 v8 v9 (some (.ref (ea e))) v11 v12) [] := by
  intro v6 v7 v8 v9 v11 v12
  obtain ⟨n1, n2, n3, n4, n5, n6, n7⟩ := h.node e he
  have hs := h.setv he hk hv
  have q := hQ _ hs.1 hs.2 rfl
  have hm := h.1.2.2
  have h10 := h.2.2.2.2.2.1
  have h11 := h.2.2.2.2.2.2.1
  have key : ∀ G1, gc G1 m = 13 → gm G1 m 10 = .int (iI 0) → gm G1 m 11 = .int (iI 0) → Q (some (ev e)) G1 → ∀ v11 : Option Value, Wp X Y_J4_putVal 6 Q k n G1 250 (pvL m kc z v v6 v7 v8 v9 (some (.ref (ea e))) v11 (some (ev e))) [] := by
    intro G1 g1 g2 g3 hq v11
    refine exS rfl 3 _ _ _ _ _ _ ?_
    simp (maxSteps := 1000000) (disch := first | omega | (simp only [gs_new, gs_put]; omega) | fail) only [exC, Nat.reduceAdd, Nat.reduceSub, Nat.reduceMul, Nat.reduceLeDiff, Nat.reduceLT, Nat.reduceEqDiff, Nat.reduceBEq, Int.reduceAdd, Int.reduceSub, Int.reduceMul, Int.reduceNeg, Int.reduceToNat, Int.reduceLE, Int.reduceLT, Int.reduceEq, Int.reduceGE, Int.reduceGT, ↓reduceIte, reduceCtorEq, gm_pe, gm_pn, gc_put, gl_put, gs_put, exists_eq_left', exists_eq_left, gs_new, gc_ne, gc_nn, gl_ne, gl_nn, gm_ne, gm_nn, cd_J4_putVal, g1]
    try simp only [iteP]
    refine gCall.of (h_afterAccess (X := X) g1 g2 g3) (by decide) (by first | omega | decide) (by first | omega | decide) ?_
    rintro r G' ⟨rfl, rfl⟩
    refine exS rfl 3 _ _ _ _ _ _ ?_
    simp (maxSteps := 1000000) (disch := first | omega | (simp only [gs_new, gs_put]; omega) | fail) only [exC, Nat.reduceAdd, Nat.reduceSub, Nat.reduceMul, Nat.reduceLeDiff, Nat.reduceLT, Nat.reduceEqDiff, Nat.reduceBEq, Int.reduceAdd, Int.reduceSub, Int.reduceMul, Int.reduceNeg, Int.reduceToNat, Int.reduceLE, Int.reduceLT, Int.reduceEq, Int.reduceGE, Int.reduceGT, ↓reduceIte, reduceCtorEq, gm_pe, gm_pn, gc_put, gl_put, gs_put, exists_eq_left', exists_eq_left, gs_new, gc_ne, gc_nn, gl_ne, gl_nn, gm_ne, gm_nn, cd_J4_putVal]
    try simp only [iteP]
    exact ⟨n7, n7, hq⟩
  have hmne : ¬ m = ea e := (ne_tag n3 hm (by decide)).symm
  have kk := key (gput G (ea e) 2 v) hm (by rw [gm_pn (fun z => hmne z.1)]; exact h10) (by rw [gm_pn (fun z => hmne z.1)]; exact h11) q
  have hkv : kill2 (some (ev e)) = some (ev e) := by
    cases hev : ev e with
    | ref a => rfl
    | null => rfl
    | _ => rw [hev] at n7; exact n7.elim
  cases v <;> try exact hv.elim
  all_goals
    refine excS rfl 250 20 _ _ _ _ _ _ ?_
    simp (maxSteps := 1000000) (disch := first | omega | (simp only [gs_new, gs_put]; omega) | fail) only [exC, Nat.reduceAdd, Nat.reduceSub, Nat.reduceMul, Nat.reduceLeDiff, Nat.reduceLT, Nat.reduceEqDiff, Nat.reduceBEq, Int.reduceAdd, Int.reduceSub, Int.reduceMul, Int.reduceNeg, Int.reduceToNat, Int.reduceLE, Int.reduceLT, Int.reduceEq, Int.reduceGE, Int.reduceGT, ↓reduceIte, reduceCtorEq, gm_pe, gm_pn, gc_put, gl_put, gs_put, exists_eq_left', exists_eq_left, gs_new, gc_ne, gc_nn, gl_ne, gl_nn, gm_ne, gm_nn, cd_J4_putVal, n3, n6, n7, iI_rt]
    try simp only [iteP]
    exact kk _
end
