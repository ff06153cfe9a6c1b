/-! LINKED HASH MAPS: put -/
set_option maxRecDepth 100000
set_option maxHeartbeats 2000000
theorem LMi.remake {G G' : gH} {S : Nat → Prop} {m : Nat} {c sz sz' : Int} {E : List lE} (h : LMi G S m c E sz) (hz : gs G' = gs G) (hc : gc G' = gc G) (hl : gl G' = gl G) (ho : ∀ a, a ≠ m → gm G' a = gm G a) (hf : ∀ j, j ≠ 2 → j ≠ 3 → gm G' m j = gm G m j) (h2 : gm G' m 2 = .int (iI sz')) (h3 : ∃ mc, gm G' m 3 = .int mc) : LMi G' S m c E sz' := by
  obtain ⟨⟨a1, a2, a3⟩, a4, a5, a6, a7, a8, a9, b1, b2, b3, b4, q1, q2, tab, q4, q5, q6, q7, q8, q9⟩ := h
  have hnm : ∀ a ∈ E.map ea, a ≠ m := fun a ha q => by
    obtain ⟨e, he, rfl⟩ := List.mem_map.mp ha
    have := (b1 e he).2.2.1
    rw [q, a3] at this; cases this
  refine ⟨⟨a1, by omega, by rw [hc]; exact a3⟩, h2, h3, by rw [hf 5 (by decide) (by decide)]; exact a6, ?_, by rw [hf 10 (by decide) (by decide)]; exact a8, by rw [hf 11 (by decide) (by decide)]; exact a9, fun e he => ?_, b2, ?_, ?_, q1, by rw [hf 4 (by decide) (by decide)]; exact q2, tab, by rw [hf 0 (by decide) (by decide)]; exact q4, q5, by rw [hz]; exact q6, by rw [hc]; exact q7, by rw [hl]; exact q8, fun b b0 b1' => ?_⟩
  · unfold KS
    rw [hf 6 (by decide) (by decide), hz, hc]
    refine a7.imp id ?_
    rintro ⟨ks, w1, w2, w3, w4, w5⟩
    have hk : ks ≠ m := ne_tag w3 a3 (by decide)
    exact ⟨ks, w1, w2, w3, by rw [ho ks hk]; exact w4, by rw [ho ks hk]; exact w5⟩
  · obtain ⟨n1, n2, n3, n4, ⟨kc, n5, n7⟩, n8, n9⟩ := b1 e he
    have hk : kc ≠ m := ne_tag n7.2.1 a3 (by decide)
    have hE := ho _ (hnm _ (List.mem_map.mpr ⟨e, he, rfl⟩))
    exact ⟨n1, by omega, by rw [hc]; exact n3, by rw [hE]; exact n4, ⟨kc, by rw [hE]; exact n5, n7.keep (by omega) (by rw [hc]) (ho kc hk)⟩, by rw [hE]; exact n8, n9⟩
  · rw [hf 8 (by decide) (by decide)]; exact chn.congr _ _ (fun a ha => by rw [ho a (hnm a ha)]) b3
  · rw [hf 9 (by decide) (by decide)]; exact chn.congr _ _ (fun a ha => by rw [ho a (hnm a (List.mem_reverse.mp ha))]) b4
  · rw [ho tab (ne_tag q7 a3 (by decide))]
    refine chn.congr _ _ (fun a ha => ?_) (q9 b b0 b1')
    obtain ⟨e, he, rfl⟩ := List.mem_map.mp ha
    rw [ho _ (hnm _ (List.mem_map.mpr ⟨e, (List.mem_filter.mp he).1, rfl⟩))]
theorem bkt_app {E : List lE} {e : lE} {c b : Int} : bkt (E ++ [e]) c b = bkt E c b ++ if ek e % c = b then [e] else [] := by
  unfold bkt
  rw [List.filter_append]
  by_cases h : ek e % c = b <;> simp [h]
/-- a new node in its order and its bucket -/
theorem LMi.app {G G1 G2 : gH} {S : Nat → Prop} {m kc : Nat} {c z sz : Int} {v : Value} {E : List lE} (h : LMi G S m c E sz) (hN : NN G G1 m z kc v (E.map ea)) (hk : isCell G kc z) (hz : z ∉ E.map ek) (hv : rfOK v)
    (h2 : (bkt E c (z % c) = [] ∧ ∃ tab, gm G m 0 = .ref tab ∧ G2 = gput G1 tab (z % c).toNat (.ref (gs G))) ∨ ∃ B0 ex, bkt E c (z % c) = B0 ++ [ex] ∧ G2 = gput G1 (ea ex) 3 (.ref (gs G))) : LMi G2 (xt S G G2) m c (E ++ [(z, gs G, v)]) sz ∧ Fr S G G2 ∧ gs G2 = gs G + 1 ∧ gm G2 m 0 = gm G m 0 := by
  obtain ⟨⟨a1, a2, a3⟩, a4, a5, a6, a7, a8, a9, b1, b2, b3, b4, q1, q2, tab, q4, q5, q6, q7, q8, q9⟩ := h
  obtain ⟨r1, r2, r3, r4, r5, r6, r7, r8, r9, r10, r11⟩ := hN
  have n3E : ∀ e ∈ E, nod3 G e := fun e he => (b1 e he).n3
  have nd := nod_nd n3E b2
  have hnE : ∀ a ∈ E.map ea, a < gs G ∧ gc G a = 24 ∧ S a := fun a ha => by
    obtain ⟨e, he, rfl⟩ := List.mem_map.mp ha
    exact ⟨(b1 e he).2.1, (b1 e he).2.2.1, (b1 e he).1⟩
  have hmE : m ∉ E.map ea := fun q => by have := (hnE m q).2.1; rw [a3] at this; cases this
  have htE : tab ∉ E.map ea := fun q => by have := (hnE tab q).2.1; rw [q7] at this; cases this
  have htm : tab ≠ m := ne_tag q7 a3 (by decide)
  have hsub : ∀ b, ∀ a, a ∈ (bkt E c b).map ea → a ∈ E.map ea := fun b a ha => by
    obtain ⟨e, he, rfl⟩ := List.mem_map.mp ha
    exact List.mem_map.mpr ⟨e, (List.mem_filter.mp he).1, rfl⟩
  have hbm := cap_mod q1 z
  -- the write: at w, place i
  obtain ⟨w, i, hG2, hw, hwm, hwS, hwt, hw3⟩ : ∃ w i, G2 = gput G1 w i (.ref (gs G)) ∧ w < gs G ∧ w ≠ m ∧ S w ∧ (gc G w = 105 ∨ gc G w = 24) ∧ ((w = tab ∧ i = (z % c).toNat) ∨ (i = 3 ∧ w ∈ (bkt E c (z % c)).map ea)) := by
    rcases h2 with ⟨-, tab', t1, rfl⟩ | ⟨B0, ex, hB, rfl⟩
    · rw [q4] at t1
      cases t1
      exact ⟨tab, _, rfl, q6, htm, q5, Or.inl q7, Or.inl ⟨rfl, rfl⟩⟩
    · have hex : ea ex ∈ (bkt E c (z % c)).map ea := List.mem_map.mpr ⟨ex, by rw [hB]; simp, rfl⟩
      have := hnE _ (hsub _ _ hex)
      exact ⟨ea ex, 3, rfl, this.1, ne_tag this.2.1 a3 (by decide), this.2.2, Or.inr this.2.1, Or.inr ⟨rfl, hex⟩⟩
  have hgs : gs G2 = gs G + 1 := by rw [hG2]; exact r1
  have hlt : gs G < gs G2 := by omega
  have hle : gs G ≤ gs G2 := by omega
  have cc : ∀ a, a < gs G → gc G2 a = gc G a ∧ gl G2 a = gl G a := fun a ha => by rw [hG2]; exact r2 a ha
  have hm' : ∀ j, j ≠ 8 → j ≠ 9 → gm G2 m j = gm G m j := fun j j8 j9 => by rw [hG2, gm_pn (fun z => hwm z.1.symm)]; exact r8 j j8 j9
  have hgw : gs G ≠ w := by omega
  have hnew : ∀ j, gm G2 (gs G) j = gm G1 (gs G) j := fun j => by rw [hG2, gm_pn (fun z => hgw z.1)]
  have nod : ∀ a ∈ E.map ea, ∀ j, j ≠ 3 → j ≠ 5 → gm G2 a j = gm G a j := fun a ha j j3 j5 => by
    rw [hG2, gm_pn]
    · exact r9 a (hnE a ha).1 (fun q => hmE (by rw [← q]; exact ha)) j (Or.inr j5)
    · rintro ⟨rfl, rfl⟩
      rcases hw3 with ⟨rfl, -⟩ | ⟨rfl, -⟩
      · exact htE ha
      · exact j3 rfl
  have n45 : ∀ a j, (j = 4 ∨ j = 5) → a ∈ E.map ea ++ [gs G] → gm G2 a j = gm G1 a j := fun a j hj ha => by
    rw [hG2, gm_pn]
    rintro ⟨rfl, rfl⟩
    rcases hw3 with ⟨rfl, -⟩ | ⟨rfl, -⟩
    · rcases List.mem_append.mp ha with q | q
      · exact htE q
      · exact hgw (List.mem_singleton.mp q).symm
    · omega
  have frz' : ∀ a, a < gs G → frz (gc G a) → gm G2 a = gm G a := fun a ha hf => by
    funext j
    rw [hG2, gm_pn]
    · refine r9 a ha (fun q => by rw [q, a3] at hf; revert hf; decide) j (Or.inl (fun q => ?_))
      rw [(hnE a q).2.1] at hf; revert hf; decide
    · rintro ⟨rfl, -⟩
      rcases hwt with q | q <;> (rw [q] at hf; revert hf; decide)
  have hcellE : ∀ k y, isCell G k y → isCell G2 k y := fun k y hk => hk.keep hle (cc k hk.1).1 (frz' k hk.1 (Or.inl hk.2.1))
  refine ⟨⟨⟨Or.inl ⟨a1, a2⟩, Nat.lt_of_lt_of_le a2 hle, by rw [(cc m a2).1]; exact a3⟩, by rw [hm' 2 (by decide) (by decide)]; exact a4, by rw [hm' 3 (by decide) (by decide)]; exact a5, by rw [hm' 5 (by decide) (by decide)]; exact a6, ?_, by rw [hm' 10 (by decide) (by decide)]; exact a8, by rw [hm' 11 (by decide) (by decide)]; exact a9, fun e he => ?_, ?_, ?_, ?_, q1, by rw [hm' 4 (by decide) (by decide)]; exact q2, tab, by rw [hm' 0 (by decide) (by decide)]; exact q4, Or.inl ⟨q5, q6⟩, Nat.lt_of_lt_of_le q6 hle, by rw [(cc tab q6).1]; exact q7, by rw [(cc tab q6).2]; exact q8, fun b b0 b1' => ?_⟩, ⟨hle, cc, fun a ha hn => ?_⟩, hgs, hm' 0 (by decide) (by decide)⟩
  · unfold KS
    rw [hm' 6 (by decide) (by decide)]
    refine a7.imp id ?_
    rintro ⟨ks, w1, w2, w3, w4, w5⟩
    have hk : gm G2 ks = gm G ks := frz' ks w2 (Or.inr w3)
    exact ⟨ks, w1, Nat.lt_of_lt_of_le w2 hle, by rw [(cc ks w2).1]; exact w3, by rw [hk]; exact w4, by rw [hk]; exact w5⟩
  · rcases List.mem_append.mp he with he | he
    · obtain ⟨n1, n2, n3, n4, ⟨kc', n5, n7⟩, n8, n9⟩ := b1 e he
      have hE := nod _ (List.mem_map.mpr ⟨e, he, rfl⟩)
      exact ⟨Or.inl ⟨n1, n2⟩, Nat.lt_of_lt_of_le n2 hle, by rw [(cc _ n2).1]; exact n3, by rw [hE 0 (by decide) (by decide)]; exact n4, ⟨kc', by rw [hE 1 (by decide) (by decide)]; exact n5, hcellE _ _ n7⟩, by rw [hE 2 (by decide) (by decide)]; exact n8, n9⟩
    · rw [List.mem_singleton.mp he]
      exact ⟨Or.inr ⟨Nat.le_refl _, hlt⟩, hlt, by rw [hG2]; exact r3, (hnew 0).trans r4, ⟨kc, (hnew 1).trans r5, hcellE _ _ hk⟩, (hnew 2).trans r6, hv⟩
  · rw [List.map_append, List.map_cons, List.map_nil]
    refine List.nodup_append.mpr ⟨b2, by simp, fun a ha b hb => ?_⟩
    rw [List.mem_singleton.mp hb]
    exact fun q => hz (by rw [← show a = z from q]; exact ha)
  · rw [List.map_append]
    have e8 : gm G2 m 8 = gm G1 m 8 := by rw [hG2, gm_pn (fun z => hwm z.1.symm)]
    rw [e8]
    exact chn.congr _ _ (fun a ha => n45 a 5 (Or.inr rfl) ha) r10
  · rw [List.map_append]
    have e9 : gm G2 m 9 = gm G1 m 9 := by rw [hG2, gm_pn (fun z => hwm z.1.symm)]
    rw [e9]
    exact chn.congr _ _ (fun a ha => n45 a 4 (Or.inl rfl) (List.mem_reverse.mp ha)) r11
  · -- buckets
    have hto : ∀ j, gm G1 tab j = gm G tab j := fun j => r9 tab q6 htm j (Or.inl htE)
    have hnx : ∀ a ∈ E.map ea, gm G1 a 3 = gm G a 3 := fun a ha => r9 a (hnE a ha).1 (fun q => hmE (by rw [← q]; exact ha)) 3 (Or.inr (by decide))
    have hch1 : ∀ b' : Int, 0 ≤ b' → b' < c → chn G1 3 (gm G1 tab b'.toNat) ((bkt E c b').map ea) := fun b' b0 b1 => by
      rw [hto]
      exact chn.congr _ _ (fun a ha => hnx a (hsub _ a ha)) (q9 b' b0 b1)
    rw [bkt_app]
    by_cases hbz : z % c = b
    · subst hbz
      rw [if_pos (show ek (z, gs G, v) % c = z % c from rfl), List.map_append]
      rcases h2 with ⟨hB, tab', t1, hG⟩ | ⟨B0, ex, hB, hG⟩
      · rw [q4] at t1
        cases t1
        rw [hB, hG, gm_pe]
        refine ⟨rfl, ?_⟩
        show gm _ _ _ = _
        rw [← hG]; exact (hnew 3).trans r7
      · have hex : ea ex ∈ (bkt E c (z % c)).map ea := List.mem_map.mpr ⟨ex, by rw [hB]; simp, rfl⟩
        have := hch1 (z % c) b0 b1'
        rw [hB, List.map_append] at this
        have hnd2 : ((B0 ++ [ex]).map ea).Nodup := by
          rw [← hB]
          exact nd.sublist (List.Sublist.map ea List.filter_sublist)
        rw [List.map_append] at hnd2
        have hnot : gs G ∉ B0.map ea ++ [ex].map ea := fun q => by
          rw [← List.map_append, ← hB] at q
          have := (hnE _ (hsub _ _ q)).1
          omega
        rw [hB, hG, gm_pn (fun z => by have := (hnE _ (hsub _ _ hex)).2.1; rw [← z.1, q7] at this; cases this), List.map_append]
        exact chn.snoc _ _ this hnd2 hnot r7
    · rw [if_neg (show ¬ ek (z, gs G, v) % c = b from hbz), List.append_nil]
      have htb : gm G2 tab b.toNat = gm G1 tab b.toNat := by
        rw [hG2, gm_pn]
        rintro ⟨rfl, hi⟩
        rcases hw3 with ⟨-, h⟩ | ⟨-, h⟩
        · omega
        · exact htE (hsub _ _ h)
      rw [htb]
      refine chn.congr _ _ (fun a ha => ?_) (hch1 b b0 b1')
      rw [hG2, gm_pn]
      rintro ⟨rfl, hi⟩
      rcases hw3 with ⟨rfl, -⟩ | ⟨-, h⟩
      · exact htE (hsub _ _ ha)
      · obtain ⟨e1, he1, hq1⟩ := List.mem_map.mp ha
        obtain ⟨e2, he2, hq2⟩ := List.mem_map.mp h
        obtain ⟨w1, w2⟩ := List.mem_filter.mp he1
        obtain ⟨w3, w4⟩ := List.mem_filter.mp he2
        have := nod_key (n3E e1 w1) (n3E e2 w3) (hq1.trans hq2.symm)
        simp only [decide_eq_true_eq] at w2 w4
        exact hbz (by rw [← w4, ← this, w2])
  · by_cases hS : S a
    · exact frz' a ha (hn hS)
    · funext j
      rw [hG2, gm_pn (fun z => hS (by rw [z.1]; exact hwS))]
      exact r9 a ha (fun q => hS (by rw [q]; exact a1)) j (Or.inl (fun q => hS (hnE a q).2.2))
