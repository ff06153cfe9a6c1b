/-! LINKED HASH MAPS: resize -/
set_option maxRecDepth 100000
set_option maxHeartbeats 2000000
/-- what resize leaves -/
def RZ (G G' : gH) (m : Nat) (c : Int) (E : List lE) : Prop :=
  gs G' = gs G + 1 ∧ (∀ a, a < gs G → gc G' a = gc G a ∧ gl G' a = gl G a) ∧ gc G' (gs G) = 105 ∧ gl G' (gs G) = c.toNat ∧ gm G' m 0 = .ref (gs G) ∧ gm G' m 4 = .int (iI (c / 4 * 3)) ∧ (∀ j, j ≠ 0 → j ≠ 4 → gm G' m j = gm G m j) ∧
  (∀ a, a < gs G → a ≠ m → gm G m 0 ≠ .ref a → ∀ j, (a ∉ E.map ea ∨ j ≠ 3) → gm G' a j = gm G a j) ∧ ∀ b : Int, 0 ≤ b → b < c → chn G' 3 (gm G' (gs G) b.toNat) ((bkt E c b).map ea)
theorem flt_1 : FP.fmul (FP.i2f (iI 16)) 0x3F400000 = 0x41400000 := by decide +kernel
theorem flt_2 : vf_n32 0x41400000 := by unfold vf_n32; decide +kernel
theorem flt_3 : FP.f2i 0x41400000 = iI 12 := by decide +kernel
theorem flt_4 : Op.cmpValue (FP.fcmp 0x41400000 0x4E800000) .g = iI (-1) := by decide +kernel
section
variable {X : gX} {S : Nat → Prop} {G : gH} {m : Nat} {c : Int} {E : List lE}
theorem h_resize0 {th : Int} (h1 : m < gs G ∧ gc G m = 13) (ht : gm G m 0 = .null) (h4 : gm G m 4 = .int (iI th)) (hth : th = 0 ∨ th = 16) (h5 : gm G m 5 = .float 0x3F400000) : Tri X 4 Y_J4_resize [.ref m] 1 16 G (fun r G' => r = some (.ref (gs G)) ∧ RZ G G' m 16 []) := by
  obtain ⟨hm, h13⟩ := h1
  have hfin : RZ G (gput (gnew (gput G m 4 (.int (iI 12))) 105 16 (fun _ => .null)) m 0 (.ref (gs G))) m 16 [] := by
    refine ⟨rfl, fun a ha => ⟨?_, ?_⟩, ?_, ?_, gm_pe, ?_, fun j j0 j4 => ?_, fun a ha hne _ j _ => ?_, fun b b0 b1 => ?_⟩
    · rw [gc_put, gc_nn (by rw [gs_put]; exact ha), gc_put]
    · rw [gl_put, gl_nn (by rw [gs_put]; exact ha), gl_put]
    · rw [gc_put]; exact gc_ne (G := gput G m 4 (.int (iI 12)))
    · rw [gl_put]; exact gl_ne (G := gput G m 4 (.int (iI 12)))
    · rw [gm_pn (by omega), gm_nn (by rw [gs_put]; exact hm), gm_pe]; rfl
    · rw [gm_pn (fun z => j0 z.2), gm_nn (by rw [gs_put]; exact hm), gm_pn (fun z => j4 z.2)]
    · rw [gm_pn (fun z => hne z.1), gm_nn (by rw [gs_put]; exact ha), gm_pn (fun z => hne z.1)]
    · rw [gm_pn (fun z => by have := z.1; omega)]
      show gm (gnew (gput G m 4 (.int (iI 12))) 105 16 (fun _ => .null)) (gs (gput G m 4 (.int (iI 12)))) _ = _
      rw [gm_ne]
  rcases hth with rfl | rfl
  · refine Tri.ofQ (by decide +kernel) (Nat.le_of_ble_eq_true rfl) (fun Q hQ => ?_)
    refine excS rfl 125 24 _ _ _ _ _ _ ?_
    simp (maxSteps := 1000000) (disch := first | omega | (simp only [gs_new, gs_put]; omega) | fail) only [exC, Nat.reduceAdd, Nat.reduceSub, Nat.reduceMul, Nat.reduceLeDiff, Nat.reduceLT, Nat.reduceEqDiff, Nat.reduceBEq, Int.reduceAdd, Int.reduceSub, Int.reduceMul, Int.reduceNeg, Int.reduceToNat, Int.reduceLE, Int.reduceLT, Int.reduceEq, Int.reduceGE, Int.reduceGT, ↓reduceIte, reduceCtorEq, gm_pe, gm_pn, gc_put, gl_put, gs_put, exists_eq_left', exists_eq_left, gs_new, gc_ne, gc_nn, gl_ne, gl_nn, gm_ne, gm_nn, cd_J4_resize, h13, ht, h4, iI_rt]
    try simp only [iteP]
    refine excS rfl 353 16 _ _ _ _ _ _ ?_
    simp (maxSteps := 1000000) (disch := first | omega | (simp only [gs_new, gs_put]; omega) | fail) only [exC, Nat.reduceAdd, Nat.reduceSub, Nat.reduceMul, Nat.reduceLeDiff, Nat.reduceLT, Nat.reduceEqDiff, Nat.reduceBEq, Int.reduceAdd, Int.reduceSub, Int.reduceMul, Int.reduceNeg, Int.reduceToNat, Int.reduceLE, Int.reduceLT, Int.reduceEq, Int.reduceGE, Int.reduceGT, ↓reduceIte, reduceCtorEq, gm_pe, gm_pn, gc_put, gl_put, gs_put, exists_eq_left', exists_eq_left, gs_new, gc_ne, gc_nn, gl_ne, gl_nn, gm_ne, gm_nn, cd_J4_resize, h13, ht, iI_rt]
    try simp only [iteP]
    refine exS rfl 2 _ _ _ _ _ _ ?_
    simp (maxSteps := 1000000) (disch := first | omega | (simp only [gs_new, gs_put]; omega) | fail) only [exC, Nat.reduceAdd, Nat.reduceSub, Nat.reduceMul, Nat.reduceLeDiff, Nat.reduceLT, Nat.reduceEqDiff, Nat.reduceBEq, Int.reduceAdd, Int.reduceSub, Int.reduceMul, Int.reduceNeg, Int.reduceToNat, Int.reduceLE, Int.reduceLT, Int.reduceEq, Int.reduceGE, Int.reduceGT, ↓reduceIte, reduceCtorEq, gm_pe, gm_pn, gc_put, gl_put, gs_put, exists_eq_left', exists_eq_left, gs_new, gc_ne, gc_nn, gl_ne, gl_nn, gm_ne, gm_nn, cd_J4_resize]
    try simp only [iteP]
    exact hQ _ _ ⟨rfl, hfin⟩
  · refine Tri.ofQ (by decide +kernel) (Nat.le_of_ble_eq_true rfl) (fun Q hQ => ?_)
    refine excS rfl 90 24 _ _ _ _ _ _ ?_
    simp (maxSteps := 1000000) (disch := first | omega | (simp only [gs_new, gs_put]; omega) | fail) only [exC, Nat.reduceAdd, Nat.reduceSub, Nat.reduceMul, Nat.reduceLeDiff, Nat.reduceLT, Nat.reduceEqDiff, Nat.reduceBEq, Int.reduceAdd, Int.reduceSub, Int.reduceMul, Int.reduceNeg, Int.reduceToNat, Int.reduceLE, Int.reduceLT, Int.reduceEq, Int.reduceGE, Int.reduceGT, ↓reduceIte, reduceCtorEq, gm_pe, gm_pn, gc_put, gl_put, gs_put, exists_eq_left', exists_eq_left, gs_new, gc_ne, gc_nn, gl_ne, gl_nn, gm_ne, gm_nn, cd_J4_resize, h13, ht, h4, iI_rt]
    try simp only [iteP]
    refine excS rfl 125 24 _ _ _ _ _ _ ?_
    simp (maxSteps := 1000000) (disch := first | omega | (simp only [gs_new, gs_put]; omega) | fail) only [exC, Nat.reduceAdd, Nat.reduceSub, Nat.reduceMul, Nat.reduceLeDiff, Nat.reduceLT, Nat.reduceEqDiff, Nat.reduceBEq, Int.reduceAdd, Int.reduceSub, Int.reduceMul, Int.reduceNeg, Int.reduceToNat, Int.reduceLE, Int.reduceLT, Int.reduceEq, Int.reduceGE, Int.reduceGT, ↓reduceIte, reduceCtorEq, gm_pe, gm_pn, gc_put, gl_put, gs_put, exists_eq_left', exists_eq_left, gs_new, gc_ne, gc_nn, gl_ne, gl_nn, gm_ne, gm_nn, cd_J4_resize, h13, h5, iI_rt, flt_1, flt_2, flt_3, flt_4]
    try simp only [iteP]
    refine excS rfl 353 16 _ _ _ _ _ _ ?_
    simp (maxSteps := 1000000) (disch := first | omega | (simp only [gs_new, gs_put]; omega) | fail) only [exC, Nat.reduceAdd, Nat.reduceSub, Nat.reduceMul, Nat.reduceLeDiff, Nat.reduceLT, Nat.reduceEqDiff, Nat.reduceBEq, Int.reduceAdd, Int.reduceSub, Int.reduceMul, Int.reduceNeg, Int.reduceToNat, Int.reduceLE, Int.reduceLT, Int.reduceEq, Int.reduceGE, Int.reduceGT, ↓reduceIte, reduceCtorEq, gm_pe, gm_pn, gc_put, gl_put, gs_put, exists_eq_left', exists_eq_left, gs_new, gc_ne, gc_nn, gl_ne, gl_nn, gm_ne, gm_nn, cd_J4_resize, h13, ht, iI_rt]
    try simp only [iteP]
    refine exS rfl 2 _ _ _ _ _ _ ?_
    simp (maxSteps := 1000000) (disch := first | omega | (simp only [gs_new, gs_put]; omega) | fail) only [exC, Nat.reduceAdd, Nat.reduceSub, Nat.reduceMul, Nat.reduceLeDiff, Nat.reduceLT, Nat.reduceEqDiff, Nat.reduceBEq, Int.reduceAdd, Int.reduceSub, Int.reduceMul, Int.reduceNeg, Int.reduceToNat, Int.reduceLE, Int.reduceLT, Int.reduceEq, Int.reduceGE, Int.reduceGT, ↓reduceIte, reduceCtorEq, gm_pe, gm_pn, gc_put, gl_put, gs_put, exists_eq_left', exists_eq_left, gs_new, gc_ne, gc_nn, gl_ne, gl_nn, gm_ne, gm_nn, cd_J4_resize]
    try simp only [iteP]
    exact hQ _ _ ⟨rfl, hfin⟩
theorem h_resize1 {tab : Nat} (hc : isCap4 c) (h1 : m < gs G ∧ gc G m = 13) (ht : gm G m 0 = .ref tab) (h4 : gm G m 4 = .int (iI (c / 4 * 3))) (hn : ∀ e ∈ E, nod3 G e ∧ ea e < gs G) (hk : (E.map ek).Nodup) (t1 : tab < gs G ∧ gc G tab = 105 ∧ gl G tab = c.toNat) (hch : ∀ b : Int, 0 ≤ b → b < c → chn G 3 (gm G tab b.toNat) ((bkt E c b).map ea)) : Tri X 4 Y_J4_resize [.ref m] 1 (2 * c).toNat G (fun r G' => r = some (.ref (gs G)) ∧ RZ G G' m (2 * c) E) := by
  obtain ⟨hm, h13⟩ := h1
  obtain ⟨ta, tb, tc⟩ := t1
  have hgl : ((gl G tab : Nat) : Int) = c := by omega
  have hsh := shl_c hc
  have hc0 : ¬ c ≤ 0 := by omega
  have hc1 : ¬ 1073741824 ≤ c := by omega
  have hc2 : ¬ 1073741824 ≤ 2 * c := by omega
  have hc3 : ¬ c < 16 := by omega
  have hc4 : c < 1073741824 := by omega
  have hq0 : ¬ 2 * c / 4 * 3 = 0 := by omega
  have hmt : m ≠ tab := ne_tag h13 tb (by decide)
  have hnd : (E.map ea).Nodup := by
    have key : ∀ l : List lE, (∀ e ∈ l, nod3 G e) → (l.map ek).Nodup → (l.map ea).Nodup := by
      intro l
      induction l with
      | nil => intro _ _; exact List.nodup_nil
      | cons e t ih =>
        intro hl hk
        rw [List.map_cons, List.nodup_cons] at hk ⊢
        refine ⟨fun h => ?_, ih (fun e' he' => hl e' (List.mem_cons_of_mem _ he')) hk.2⟩
        obtain ⟨e', he', hq⟩ := List.mem_map.mp h
        exact hk.1 (List.mem_map.mpr ⟨e', he', nod_key (hl e' (List.mem_cons_of_mem _ he')) (hl e List.mem_cons_self) hq⟩)
    exact key E (fun e he => (hn e he).1) hk
  generalize hG1 : gput (gnew (gput G m 4 (.int (iI (2 * c / 4 * 3)))) 105 (2 * c).toNat (fun _ => .null)) m 0 (.ref (gs G)) = G1
  have f1 : gs G1 = gs G + 1 := by rw [← hG1]; rfl
  have f2 : ∀ a, a < gs G → gc G1 a = gc G a ∧ gl G1 a = gl G a := fun a ha => by
    rw [← hG1]
    exact ⟨by rw [gc_put, gc_nn (by rw [gs_put]; exact ha), gc_put], by rw [gl_put, gl_nn (by rw [gs_put]; exact ha), gl_put]⟩
  have f3 : gc G1 (gs G) = 105 := by rw [← hG1, gc_put]; exact gc_ne (G := gput G m 4 (.int (iI (2 * c / 4 * 3))))
  have f4 : gl G1 (gs G) = (2 * c).toNat := by rw [← hG1, gl_put]; exact gl_ne (G := gput G m 4 (.int (iI (2 * c / 4 * 3))))
  have f5 : gm G1 m 0 = .ref (gs G) := by rw [← hG1, gm_pe]
  have f6 : gm G1 m 4 = .int (iI (2 * c / 4 * 3)) := by rw [← hG1, gm_pn (by omega), gm_nn (by rw [gs_put]; exact hm), gm_pe]
  have f7 : ∀ j, j ≠ 0 → j ≠ 4 → gm G1 m j = gm G m j := fun j j0 j4 => by
    rw [← hG1, gm_pn (fun z => j0 z.2), gm_nn (by rw [gs_put]; exact hm), gm_pn (fun z => j4 z.2)]
  have f8 : ∀ a, a < gs G → a ≠ m → ∀ j, gm G1 a j = gm G a j := fun a ha hne j => by
    rw [← hG1, gm_pn (fun z => hne z.1), gm_nn (by rw [gs_put]; exact ha), gm_pn (fun z => hne z.1)]
  have f9 : ∀ i, gm G1 (gs G) i = .null := fun i => by
    rw [← hG1, gm_pn (fun z => by have := z.1; omega)]
    exact gm_ne (G := gput G m 4 (.int (iI (2 * c / 4 * 3)))) (f := fun _ => .null)
  have hnm : ∀ e ∈ E, ea e ≠ m := fun e he => ne_tag (hn e he).1.1 h13 (by decide)
  have hn1 : ∀ e ∈ E, nod3 G1 e := fun e he => by
    obtain ⟨⟨q1, q2, q3⟩, q4⟩ := hn e he
    exact ⟨by rw [(f2 _ q4).1]; exact q1, by rw [f8 _ q4 (hnm e he)]; exact q2, q3⟩
  have hI : RI G1 tab (gs G) c E 0 G1 := by
    refine ⟨rfl, rfl, rfl, fun _ _ _ _ _ => rfl, fun b b0 b1 => ?_, fun b b0 b1 => by omega, fun b b0 b1 => ⟨f9 _, f9 _⟩⟩
    rw [f8 tab ta hmt.symm]
    refine chn.congr _ _ (fun a ha => ?_) (hch b b0 b1)
    obtain ⟨e, he, rfl⟩ := List.mem_map.mp ha
    have he' := (List.mem_filter.mp he).1
    exact f8 _ (hn e he').2 (hnm e he') 3
  refine Tri.ofQ (by decide +kernel) (Nat.le_of_ble_eq_true rfl) (fun Q hQ => ?_)
  refine excS rfl 85 32 _ _ _ _ _ _ ?_
  simp (maxSteps := 1000000) (disch := first | omega | (simp only [gs_new, gs_put]; omega) | fail) only [exC, Nat.reduceAdd, Nat.reduceSub, Nat.reduceMul, Nat.reduceLeDiff, Nat.reduceLT, Nat.reduceEqDiff, Nat.reduceBEq, Int.reduceAdd, Int.reduceSub, Int.reduceMul, Int.reduceNeg, Int.reduceToNat, Int.reduceLE, Int.reduceLT, Int.reduceEq, Int.reduceGE, Int.reduceGT, ↓reduceIte, reduceCtorEq, gm_pe, gm_pn, gc_put, gl_put, gs_put, exists_eq_left', exists_eq_left, gs_new, gc_ne, gc_nn, gl_ne, gl_nn, gm_ne, gm_nn, cd_J4_resize, h13, ht, h4, tb, hgl, iI_rt, hsh.1, hsh.2, hc0, hc1, hc2, hc3, hc4]
  try simp only [iteP]
  refine excS rfl 131 8 _ _ _ _ _ _ ?_
  simp (maxSteps := 1000000) (disch := first | omega | (simp only [gs_new, gs_put]; omega) | fail) only [exC, Nat.reduceAdd, Nat.reduceSub, Nat.reduceMul, Nat.reduceLeDiff, Nat.reduceLT, Nat.reduceEqDiff, Nat.reduceBEq, Int.reduceAdd, Int.reduceSub, Int.reduceMul, Int.reduceNeg, Int.reduceToNat, Int.reduceLE, Int.reduceLT, Int.reduceEq, Int.reduceGE, Int.reduceGT, ↓reduceIte, reduceCtorEq, gm_pe, gm_pn, gc_put, gl_put, gs_put, exists_eq_left', exists_eq_left, gs_new, gc_ne, gc_nn, gl_ne, gl_nn, gm_ne, gm_nn, cd_J4_resize, h13, iI_rt, hq0]
  try simp only [iteP]
  refine excS rfl 151 16 _ _ _ _ _ _ ?_
  simp (maxSteps := 1000000) (disch := first | omega | (simp only [gs_new, gs_put]; omega) | fail) only [exC, Nat.reduceAdd, Nat.reduceSub, Nat.reduceMul, Nat.reduceLeDiff, Nat.reduceLT, Nat.reduceEqDiff, Nat.reduceBEq, Int.reduceAdd, Int.reduceSub, Int.reduceMul, Int.reduceNeg, Int.reduceToNat, Int.reduceLE, Int.reduceLT, Int.reduceEq, Int.reduceGE, Int.reduceGT, ↓reduceIte, reduceCtorEq, gm_pe, gm_pn, gc_put, gl_put, gs_put, exists_eq_left', exists_eq_left, gs_new, gc_ne, gc_nn, gl_ne, gl_nn, gm_ne, gm_nn, cd_J4_resize, h13, iI_rt]
  try simp only [iteP]
  refine ⟨by omega, by omega, by omega, ?_⟩
  rw [hG1]
  refine (rs_loop (m := m) (thr := iI (c / 4 * 3)) (nthr := iI (2 * c / 4 * 3)) hc hn1 hnd (by rw [(f2 _ ta).1]; exact tb) f3 (by rw [(f2 _ ta).2]; exact tc) f4 (by omega) (fun G2 hR => hQ _ _ ⟨rfl, ?_⟩) 0 G1 (by decide) (by omega) hI none none none none none none).wk' _ (by simp [wkL])
  obtain ⟨r1, r2, r3, r4, r5, r6, r7⟩ := hR
  have hgm : gs G ≠ m := by omega
  refine ⟨by rw [r1, f1], fun a ha => by rw [r2, r3]; exact f2 a ha, by rw [r2]; exact f3, by rw [r3]; exact f4, ?_, ?_, fun j j0 j4 => ?_, fun a ha hne ht' j hj => ?_, fun b b0 b1 => ?_⟩
  · rw [r4 _ _ hmt (by omega) (Or.inr (by decide))]; exact f5
  · rw [r4 _ _ hmt (by omega) (Or.inr (by decide))]; exact f6
  · rw [r4 _ _ hmt (by omega) (Or.inl (fun q => by
      obtain ⟨e, he, hq⟩ := List.mem_map.mp q
      exact hnm e he hq))]; exact f7 j j0 j4
  · rw [r4 a j (fun q => ht' (by rw [ht, q])) (by omega) hj]; exact f8 a ha hne j
  · by_cases hb : b < c
    · exact (r6 b b0 hb).1
    · have := (r6 (b - c) (by omega) (by omega)).2
      rw [show b - c + c = b by omega] at this
      exact this
end
