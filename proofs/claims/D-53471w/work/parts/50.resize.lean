/-! LINKED HASH MAPS: the table grows -/
set_option maxRecDepth 100000
set_option maxHeartbeats 2000000
theorem bit_16 : ∀ n : Fin 162, Int32.ofNat n.val &&& Int32.ofNat 16 = Int32.ofNat (n.val / 16 % 2 * 16) := by decide +kernel
theorem bit_32 : ∀ n : Fin 162, Int32.ofNat n.val &&& Int32.ofNat 32 = Int32.ofNat (n.val / 32 % 2 * 32) := by decide +kernel
theorem bit_64 : ∀ n : Fin 162, Int32.ofNat n.val &&& Int32.ofNat 64 = Int32.ofNat (n.val / 64 % 2 * 64) := by decide +kernel
theorem bit_128 : ∀ n : Fin 162, Int32.ofNat n.val &&& Int32.ofNat 128 = Int32.ofNat (n.val / 128 % 2 * 128) := by decide +kernel
abbrev isCap4 (c : Int) : Prop := c = 16 ∨ c = 32 ∨ c = 64 ∨ c = 128
theorem bit_c {c z : Int} (hc : isCap4 c) (hz : inC z) : iI z &&& iI c = iI (if z / c % 2 = 0 then 0 else c) := by
  obtain ⟨n, rfl⟩ := Int.eq_ofNat_of_zero_le hz.1
  have hn : n < 162 := by have := hz.2; omega
  rw [← iI_of]
  rcases hc with rfl | rfl | rfl | rfl
  · refine (bit_16 ⟨n, hn⟩).trans ?_
    rw [iI_of]; congr 1; dsimp only; split <;> omega
  · refine (bit_32 ⟨n, hn⟩).trans ?_
    rw [iI_of]; congr 1; dsimp only; split <;> omega
  · refine (bit_64 ⟨n, hn⟩).trans ?_
    rw [iI_of]; congr 1; dsimp only; split <;> omega
  · refine (bit_128 ⟨n, hn⟩).trans ?_
    rw [iI_of]; congr 1; dsimp only; split <;> omega
theorem shl_c {c : Int} (hc : isCap4 c) : iI c <<< (iI 1 &&& 31) = iI (2 * c) ∧ iI (c / 4 * 3) <<< (iI 1 &&& 31) = iI (2 * c / 4 * 3) := by
  rcases hc with rfl | rfl | rfl | rfl <;> exact ⟨by decide +kernel, by decide +kernel⟩
/-- a bucket's entries go to two buckets -/
abbrev loP (c : Int) (e : lE) : Bool := decide (ek e / c % 2 = 0)
theorem bkt2 {E : List lE} {c j : Int} (hc : isCap4 c) (hE : ∀ e ∈ E, 0 ≤ ek e) (hj : 0 ≤ j ∧ j < c) : bkt E (2 * c) j = (bkt E c j).filter (loP c) ∧ bkt E (2 * c) (j + c) = (bkt E c j).filter (fun e => !loP c e) := by
  unfold bkt
  rw [List.filter_filter, List.filter_filter]
  constructor
  · refine List.filter_congr (fun e he => ?_)
    have h0 := hE e he
    have : ek e % (2 * c) = j ↔ ek e / c % 2 = 0 ∧ ek e % c = j := by rcases hc with rfl | rfl | rfl | rfl <;> omega
    simp [this]
  · refine List.filter_congr (fun e he => ?_)
    have h0 := hE e he
    have : ek e % (2 * c) = j + c ↔ ¬ ek e / c % 2 = 0 ∧ ek e % c = j := by rcases hc with rfl | rfl | rfl | rfl <;> omega
    simp [this]
theorem hdv_n : hdv [] = .null := rfl
theorem hdv_c {a : Nat} {t : List Nat} : hdv (a :: t) = .ref a := rfl
def lastv (l : List Nat) : Value := match l.getLast? with
  | some a => .ref a
  | none => .null
theorem lastv_s {l : List Nat} {a : Nat} : lastv (l ++ [a]) = .ref a := by unfold lastv; rw [List.getLast?_concat]
theorem lastv_n : lastv [] = .null := rfl
theorem hdv_s {l : List Nat} {a x : Nat} : hdv (l ++ [x] ++ [a]) = hdv (l ++ [x]) := by cases l <;> rfl
/-- what the moving of a bucket may change -/
def hpB (G0 G : gH) (B : List Nat) : Prop := gs G = gs G0 ∧ gc G = gc G0 ∧ gl G = gl G0 ∧ ∀ a j, (a ∉ B ∨ j ≠ 3) → gm G a j = gm G0 a j
theorem hpB.refl {G : gH} {B : List Nat} : hpB G G B := ⟨rfl, rfl, rfl, fun _ _ _ => rfl⟩
theorem hpB.put {G0 G : gH} {B : List Nat} (h : hpB G0 G B) {a : Nat} {v : Value} (ha : a ∈ B) : hpB G0 (gput G a 3 v) B := by
  refine ⟨h.1, h.2.1, h.2.2.1, fun b j hb => ?_⟩
  rw [gm_put, if_neg]
  · exact h.2.2.2 b j hb
  · rintro ⟨rfl, rfl⟩
    rcases hb with q | q
    · exact q ha
    · exact q rfl
section
variable {X : gX} {S : Nat → Prop} {m : Nat} {c : Int} {E : List lE}
/-- the locals of resize -/
abbrev rsL (m tab : Nat) (c : Int) (thr : Int32) (nthr : Int32) (tab' : Nat) (j : Int) (e : Option Value) (v9 v10 v11 v12 : Option Value) (v13 : Option Value) : List (Option Value) := [some (.ref m), some (.ref tab), some (.int (iI c)), some (.int thr), some (.int (iI (2 * c))), some (.int nthr), some (.ref tab'), some (.int (iI j)), e, v9, v10, v11, v12, v13]
theorem rs_step {Q : Option Value → gH → Prop} {d k n tab tab' a : Nat} {thr nthr : Int32} {j z : Int} {G' : gH} {L Hh : List Nat} {nxv : Value} (hc : isCap4 c) (hz : inC z) (n1 : gc G' a = 24) (n2 : gm G' a 0 = .int (iI z)) (n3 : gm G' a 3 = nxv) (hr : rfOK nxv) (hL : ∀ x ∈ L, gc G' x = 24) (hH : ∀ x ∈ Hh, gc G' x = 24)
    (k1 : z / c % 2 = 0 → (L = [] → Wp X Y_J4_resize d Q k n G' 301 (rsL m tab c thr nthr tab' j (some (.ref a)) (some (hdv (L ++ [a]))) (some (lastv (L ++ [a]))) (some (hdv Hh)) (some (lastv Hh)) (some nxv)) []) ∧ ∀ L0 x, L = L0 ++ [x] → Wp X Y_J4_resize d Q k n (gput G' x 3 (.ref a)) 301 (rsL m tab c thr nthr tab' j (some (.ref a)) (some (hdv (L ++ [a]))) (some (lastv (L ++ [a]))) (some (hdv Hh)) (some (lastv Hh)) (some nxv)) [])
    (k2 : ¬ z / c % 2 = 0 → (Hh = [] → Wp X Y_J4_resize d Q k n G' 301 (rsL m tab c thr nthr tab' j (some (.ref a)) (some (hdv L)) (some (lastv L)) (some (hdv (Hh ++ [a]))) (some (lastv (Hh ++ [a]))) (some nxv)) []) ∧ ∀ L0 x, Hh = L0 ++ [x] → Wp X Y_J4_resize d Q k n (gput G' x 3 (.ref a)) 301 (rsL m tab c thr nthr tab' j (some (.ref a)) (some (hdv L)) (some (lastv L)) (some (hdv (Hh ++ [a]))) (some (lastv (Hh ++ [a]))) (some nxv)) []) :
    ∀ u, Wp X Y_J4_resize d Q k n G' 235 (rsL m tab c thr nthr tab' j (some (.ref a)) (some (hdv L)) (some (lastv L)) (some (hdv Hh)) (some (lastv Hh)) u) [] := by
  intro u
  have hbit := bit_c hc hz
  have hc0 : ¬ c = 0 := by omega
  have hkl : ∀ l : List Nat, kill2 (some (lastv l)) = some (lastv l) := by intro l; unfold lastv; split <;> rfl
  have hkh : ∀ l : List Nat, kill2 (some (hdv l)) = some (hdv l) := by intro l; cases l <;> rfl
  have hkn : kill2 (some nxv) = some nxv := by
    cases nxv with
    | ref a => rfl
    | null => rfl
    | _ => exact hr.elim
  have rl : ∀ l : List Nat, rfOK (lastv l) = True := by intro l; unfold lastv; split <;> rfl
  by_cases hb : z / c % 2 = 0
  · rw [if_pos hb] at hbit
    obtain ⟨q1, q2⟩ := k1 hb
    rcases List.eq_nil_or_concat L with rfl | ⟨L0, x, rfl⟩
    · have q := q1 rfl
      rw [lastv_n]
      refine excS rfl 301 40 _ _ _ _ _ _ ?_
      simp (disch := first | omega | (simp only [gs_new, gs_put] <;> omega)) only [exB, Nat.reduceAdd, Nat.reduceSub, Nat.reduceMul, Nat.reduceLeDiff, Nat.reduceLT, Nat.reduceEqDiff, Nat.reduceBEq, Int.reduceAdd, Int.reduceSub, Int.reduceMul, Int.reduceNeg, Int.reduceToNat, Int.reduceLE, Int.reduceLT, Int.reduceEq, Int.reduceGE, Int.reduceGT, ↓reduceIte, reduceCtorEq, gm_pe, gm_pn, gc_put, gl_put, gs_put, exists_eq_left', exists_eq_left, gs_new, gc_ne, gc_nn, gl_ne, gl_nn, gm_ne, gm_nn, cd_J4_resize, n1, n2, n3, hr, hbit, iI_rt, hkl, hkh, hkn, rl]
      exact q
    · rw [List.concat_eq_append] at *
      have q := q2 L0 x rfl
      rw [lastv_s] at *
      have hx := hL x (by simp)
      rw [hdv_s] at q
      refine excS rfl 301 40 _ _ _ _ _ _ ?_
      simp (disch := first | omega | (simp only [gs_new, gs_put] <;> omega)) only [exB, Nat.reduceAdd, Nat.reduceSub, Nat.reduceMul, Nat.reduceLeDiff, Nat.reduceLT, Nat.reduceEqDiff, Nat.reduceBEq, Int.reduceAdd, Int.reduceSub, Int.reduceMul, Int.reduceNeg, Int.reduceToNat, Int.reduceLE, Int.reduceLT, Int.reduceEq, Int.reduceGE, Int.reduceGT, ↓reduceIte, reduceCtorEq, gm_pe, gm_pn, gc_put, gl_put, gs_put, exists_eq_left', exists_eq_left, gs_new, gc_ne, gc_nn, gl_ne, gl_nn, gm_ne, gm_nn, cd_J4_resize, n1, n2, n3, hr, hbit, iI_rt, hkl, hkh, hkn, rl, hx]
      exact q
  · rw [if_neg hb] at hbit
    obtain ⟨q1, q2⟩ := k2 hb
    rcases List.eq_nil_or_concat Hh with rfl | ⟨L0, x, rfl⟩
    · have q := q1 rfl
      rw [lastv_n]
      refine excS rfl 301 40 _ _ _ _ _ _ ?_
      simp (disch := first | omega | (simp only [gs_new, gs_put] <;> omega)) only [exB, Nat.reduceAdd, Nat.reduceSub, Nat.reduceMul, Nat.reduceLeDiff, Nat.reduceLT, Nat.reduceEqDiff, Nat.reduceBEq, Int.reduceAdd, Int.reduceSub, Int.reduceMul, Int.reduceNeg, Int.reduceToNat, Int.reduceLE, Int.reduceLT, Int.reduceEq, Int.reduceGE, Int.reduceGT, ↓reduceIte, reduceCtorEq, gm_pe, gm_pn, gc_put, gl_put, gs_put, exists_eq_left', exists_eq_left, gs_new, gc_ne, gc_nn, gl_ne, gl_nn, gm_ne, gm_nn, cd_J4_resize, n1, n2, n3, hr, hbit, iI_rt, hkl, hkh, hkn, rl, hc0]
      exact q
    · rw [List.concat_eq_append] at *
      have q := q2 L0 x rfl
      rw [lastv_s] at *
      have hx := hH x (by simp)
      rw [hdv_s] at q
      refine excS rfl 301 40 _ _ _ _ _ _ ?_
      simp (disch := first | omega | (simp only [gs_new, gs_put] <;> omega)) only [exB, Nat.reduceAdd, Nat.reduceSub, Nat.reduceMul, Nat.reduceLeDiff, Nat.reduceLT, Nat.reduceEqDiff, Nat.reduceBEq, Int.reduceAdd, Int.reduceSub, Int.reduceMul, Int.reduceNeg, Int.reduceToNat, Int.reduceLE, Int.reduceLT, Int.reduceEq, Int.reduceGE, Int.reduceGT, ↓reduceIte, reduceCtorEq, gm_pe, gm_pn, gc_put, gl_put, gs_put, exists_eq_left', exists_eq_left, gs_new, gc_ne, gc_nn, gl_ne, gl_nn, gm_ne, gm_nn, cd_J4_resize, n1, n2, n3, hr, hbit, iI_rt, hkl, hkh, hkn, rl, hx, hc0]
      exact q
theorem rs_split {Q : Option Value → gH → Prop} {d k n tab tab' : Nat} {thr nthr : Int32} {j : Int} {G0 : gH} {B : List lE} (hc : isCap4 c) (hB : ∀ e ∈ B, gc G0 (ea e) = 24 ∧ gm G0 (ea e) 0 = .int (iI (ek e)) ∧ inC (ek e)) (hnd : (B.map ea).Nodup)
    (kk : ∀ G2, hpB G0 G2 (B.map ea) → lnk G2 3 ((B.filter (loP c)).map ea) → lnk G2 3 ((B.filter (fun e => !loP c e)).map ea) → Wp X Y_J4_resize d Q k n G2 309 (rsL m tab c thr nthr tab' j none (some (hdv ((B.filter (loP c)).map ea))) (some (lastv ((B.filter (loP c)).map ea))) (some (hdv ((B.filter (fun e => !loP c e)).map ea))) (some (lastv ((B.filter (fun e => !loP c e)).map ea))) none) []) :
    ∀ (Rs Ps : List lE) (e : lE) (G' : gH), B = Ps ++ e :: Rs → hpB G0 G' (B.map ea) → lnk G' 3 ((Ps.filter (loP c)).map ea) → lnk G' 3 ((Ps.filter (fun e => !loP c e)).map ea) → chn G' 3 (.ref (ea e)) ((e :: Rs).map ea) → ∀ u, Wp X Y_J4_resize d Q k n G' 235 (rsL m tab c thr nthr tab' j (some (.ref (ea e))) (some (hdv ((Ps.filter (loP c)).map ea))) (some (lastv ((Ps.filter (loP c)).map ea))) (some (hdv ((Ps.filter (fun e => !loP c e)).map ea))) (some (lastv ((Ps.filter (fun e => !loP c e)).map ea))) u) [] := by
  have hkey : ∀ e1 ∈ B, ∀ e2 ∈ B, ea e1 = ea e2 → ek e1 = ek e2 := by
    intro e1 h1 e2 h2 he
    have a1 := (hB e1 h1).2.1
    have a2 := (hB e2 h2).2.1
    have b1 := (hB e1 h1).2.2
    have b2 := (hB e2 h2).2.2
    rw [he, a2] at a1
    have := congrArg Int32.toInt (Value.int.inj a1)
    rw [iI_rt (by omega) (by omega), iI_rt (by omega) (by omega)] at this
    exact this.symm
  have hfk : ∀ (G1 G2 : gH) (p : lE → Bool) (Ps : List lE) (x : Nat) (v : Value), (∀ e ∈ Ps, p e = true → ea e ≠ x) → G2 = gput G1 x 3 v → lnk G1 3 ((Ps.filter p).map ea) → lnk G2 3 ((Ps.filter p).map ea) := by
    intro G1 G2 p Ps x v hx hG hl
    refine lnk.congr _ (fun a ha => ?_) hl
    obtain ⟨e, he, rfl⟩ := List.mem_map.mp ha
    obtain ⟨he1, he2⟩ := List.mem_filter.mp he
    rw [hG, gm_pn (fun q => hx e he1 he2 q.1)]
  -- one entry, then what comes behind it
  have one : ∀ (Rs Ps : List lE) (e : lE) (G' : gH), B = Ps ++ e :: Rs → hpB G0 G' (B.map ea) → lnk G' 3 ((Ps.filter (loP c)).map ea) → lnk G' 3 ((Ps.filter (fun e => !loP c e)).map ea) → chn G' 3 (.ref (ea e)) ((e :: Rs).map ea) → (∀ G2, hpB G0 G2 (B.map ea) → lnk G2 3 (((Ps ++ [e]).filter (loP c)).map ea) → lnk G2 3 (((Ps ++ [e]).filter (fun e => !loP c e)).map ea) → chn G2 3 (hdv (Rs.map ea)) (Rs.map ea) → Wp X Y_J4_resize d Q k n G2 301 (rsL m tab c thr nthr tab' j (some (.ref (ea e))) (some (hdv (((Ps ++ [e]).filter (loP c)).map ea))) (some (lastv (((Ps ++ [e]).filter (loP c)).map ea))) (some (hdv (((Ps ++ [e]).filter (fun e => !loP c e)).map ea))) (some (lastv (((Ps ++ [e]).filter (fun e => !loP c e)).map ea))) (some (hdv (Rs.map ea)))) []) → ∀ u, Wp X Y_J4_resize d Q k n G' 235 (rsL m tab c thr nthr tab' j (some (.ref (ea e))) (some (hdv ((Ps.filter (loP c)).map ea))) (some (lastv ((Ps.filter (loP c)).map ea))) (some (hdv ((Ps.filter (fun e => !loP c e)).map ea))) (some (lastv ((Ps.filter (fun e => !loP c e)).map ea))) u) [] := by
    intro Rs Ps e G' hBP hp hl hh hch nx
    have heB : e ∈ B := by rw [hBP]; simp
    have hPB : ∀ e' ∈ Ps, e' ∈ B := fun e' h => by rw [hBP]; simp [h]
    have hRB : ∀ e' ∈ Rs, e' ∈ B := fun e' h => by rw [hBP]; simp [h]
    obtain ⟨n1, n2, n3⟩ := hB e heB
    have n1' : gc G' (ea e) = 24 := by rw [hp.2.1]; exact n1
    have n2' : gm G' (ea e) 0 = .int (iI (ek e)) := by rw [hp.2.2.2 _ _ (Or.inr (by decide))]; exact n2
    have hch2 := hch.2
    have hnd2 := hnd
    rw [hBP, List.map_append, List.map_cons] at hnd2
    have hnP : ∀ e' ∈ Ps, ea e' ≠ ea e := fun e' h q => by
      have := (List.nodup_append.mp hnd2).2.2 (ea e') (List.mem_map.mpr ⟨e', h, rfl⟩) (ea e) List.mem_cons_self
      exact this q
    have hnR : ∀ e' ∈ Ps, ∀ b ∈ Rs.map ea, b ≠ ea e' := fun e' h b hb q => by
      have := (List.nodup_append.mp hnd2).2.2 (ea e') (List.mem_map.mpr ⟨e', h, rfl⟩) b (List.mem_cons_of_mem _ hb)
      exact this q.symm
    have hndP : (Ps.map ea).Nodup := (List.nodup_append.mp hnd2).1
    have ndf : ∀ p : lE → Bool, ((Ps.filter p).map ea).Nodup := fun p => hndP.sublist (List.Sublist.map ea List.filter_sublist)
    have tg : ∀ p : lE → Bool, ∀ x ∈ (Ps.filter p).map ea, gc G' x = 24 := fun p x hx => by
      obtain ⟨e', he', rfl⟩ := List.mem_map.mp hx
      rw [hp.2.1]
      exact (hB e' (hPB e' (List.mem_filter.mp he').1)).1
    have fl : ∀ p : lE → Bool, ((Ps ++ [e]).filter p).map ea = (Ps.filter p).map ea ++ if p e then [ea e] else [] := fun p => by
      rw [List.filter_append, List.map_append]
      by_cases h : p e <;> simp [h]
    -- a write behind x of one of the two lists
    have wr : ∀ (p q : lE → Bool) (L0 : List Nat) (x : Nat), (∀ e', p e' = true → q e' = false) → (Ps.filter p).map ea = L0 ++ [x] → lnk G' 3 ((Ps.filter p).map ea) → lnk G' 3 ((Ps.filter q).map ea) → hpB G0 (gput G' x 3 (.ref (ea e))) (B.map ea) ∧ lnk (gput G' x 3 (.ref (ea e))) 3 ((Ps.filter p).map ea ++ [ea e]) ∧ lnk (gput G' x 3 (.ref (ea e))) 3 ((Ps.filter q).map ea) ∧ chn (gput G' x 3 (.ref (ea e))) 3 (hdv (Rs.map ea)) (Rs.map ea) := by
      intro p q L0 x hpq hLx h1 h2
      obtain ⟨ex, hex, rfl⟩ : ∃ ex ∈ Ps.filter p, ea ex = x := List.mem_map.mp (by rw [hLx]; simp)
      obtain ⟨hex1, hex2⟩ := List.mem_filter.mp hex
      refine ⟨hp.put (List.mem_map.mpr ⟨ex, hPB ex hex1, rfl⟩), ?_, ?_, ?_⟩
      · have := ndf p
        rw [hLx] at this h1 ⊢
        exact lnk.snoc L0 h1 this
      · refine hfk G' _ q Ps _ _ (fun e' he' hq' hee => ?_) rfl h2
        have hk := hkey e' (hPB e' he') ex (hPB ex hex1) hee
        by_cases e' = ex
        · next h => rw [h, hpq ex hex2] at hq'; cases hq'
        · next h =>
          -- two entries of one address in a list without doubles
          have : e' = ex := by
            have hinj : ∀ (l : List lE), (l.map ea).Nodup → ∀ a ∈ l, ∀ b ∈ l, ea a = ea b → a = b := by
              intro l
              induction l with
              | nil => intro _ a ha; cases ha
              | cons y t ih =>
                intro hn a ha b hb hab
                have hn' := List.nodup_cons.mp hn
                rcases List.mem_cons.mp ha with rfl | ha1 <;> rcases List.mem_cons.mp hb with rfl | hb1
                · rfl
                · exact absurd (List.mem_map.mpr ⟨b, hb1, hab.symm⟩) hn'.1
                · exact absurd (show ea b ∈ List.map ea t from List.mem_map.mpr ⟨a, ha1, hab⟩) hn'.1
                · exact ih hn'.2 a ha1 b hb1 hab
            exact hinj Ps hndP e' he' ex hex1 hee
          exact absurd this h
      · exact chn.congr _ _ (fun b hb => gm_pn (fun z => hnR ex hex1 b hb z.1)) hch2.of
    refine rs_step hc n3 n1' n2' hch2.hd hdv_ok (tg _) (tg _) (fun hlo => ⟨fun hn => ?_, fun L0 x hLx => ?_⟩) (fun hhi => ⟨fun hn => ?_, fun L0 x hLx => ?_⟩)
    · have e1 : loP c e = true := by simp [hlo]
      have := nx G' hp
      rw [fl, fl, e1] at this
      simp only [if_true, Bool.not_true, Bool.false_eq_true, if_false, List.append_nil] at this
      exact this (by rw [hn]; exact ⟨fun b hb => (by cases hb), trivial⟩) hh hch2.of
    · have e1 : loP c e = true := by simp [hlo]
      obtain ⟨w1, w2, w3, w4⟩ := wr (loP c) (fun e => !loP c e) L0 x (fun e' h => by simp [h]) hLx hl hh
      have := nx _ w1
      rw [fl, fl, e1] at this
      simp only [if_true, Bool.not_true, Bool.false_eq_true, if_false, List.append_nil] at this
      exact this w2 w3 w4
    · have e1 : loP c e = false := by simp [hhi]
      have := nx G' hp
      rw [fl, fl, e1] at this
      simp only [if_true, Bool.not_false, Bool.false_eq_true, if_false, List.append_nil] at this
      exact this hl (by rw [hn]; exact ⟨fun b hb => (by cases hb), trivial⟩) hch2.of
    · have e1 : loP c e = false := by simp [hhi]
      obtain ⟨w1, w2, w3, w4⟩ := wr (fun e => !loP c e) (loP c) L0 x (fun e' h => by simpa using h) hLx hh hl
      have := nx _ w1
      rw [fl, fl, e1] at this
      simp only [if_true, Bool.not_false, Bool.false_eq_true, if_false, List.append_nil] at this
      exact this w3 w2 w4
  have hkl : ∀ l : List Nat, kill2 (some (lastv l)) = some (lastv l) := by intro l; unfold lastv; split <;> rfl
  intro Rs
  induction Rs with
  | nil =>
    intro Ps e G' hBP hp hl hh hch u
    refine one [] Ps e G' hBP hp hl hh hch (fun G2 q1 q2 q3 q4 => ?_) u
    rw [← hBP] at q2 q3 ⊢
    refine excS rfl 309 6 _ _ _ _ _ _ ?_
    simp (disch := first | omega | (simp only [gs_new, gs_put] <;> omega)) only [exB, Nat.reduceAdd, Nat.reduceSub, Nat.reduceMul, Nat.reduceLeDiff, Nat.reduceLT, Nat.reduceEqDiff, Nat.reduceBEq, Int.reduceAdd, Int.reduceSub, Int.reduceMul, Int.reduceNeg, Int.reduceToNat, Int.reduceLE, Int.reduceLT, Int.reduceEq, Int.reduceGE, Int.reduceGT, ↓reduceIte, reduceCtorEq, gm_pe, gm_pn, gc_put, gl_put, gs_put, exists_eq_left', exists_eq_left, gs_new, gc_ne, gc_nn, gl_ne, gl_nn, gm_ne, gm_nn, cd_J4_resize, hdv_n, List.map_nil]
    exact (kk G2 q1 q2 q3).wk' _ (by simp [wkL])
  | cons e2 Rs ih =>
    intro Ps e G' hBP hp hl hh hch u
    refine one (e2 :: Rs) Ps e G' hBP hp hl hh hch (fun G2 q1 q2 q3 q4 => ?_) u
    refine excS rfl 235 6 _ _ _ _ _ _ ?_
    simp (disch := first | omega | (simp only [gs_new, gs_put] <;> omega)) only [exB, Nat.reduceAdd, Nat.reduceSub, Nat.reduceMul, Nat.reduceLeDiff, Nat.reduceLT, Nat.reduceEqDiff, Nat.reduceBEq, Int.reduceAdd, Int.reduceSub, Int.reduceMul, Int.reduceNeg, Int.reduceToNat, Int.reduceLE, Int.reduceLT, Int.reduceEq, Int.reduceGE, Int.reduceGT, ↓reduceIte, reduceCtorEq, gm_pe, gm_pn, gc_put, gl_put, gs_put, exists_eq_left', exists_eq_left, gs_new, gc_ne, gc_nn, gl_ne, gl_nn, gm_ne, gm_nn, cd_J4_resize, hdv_c, List.map_cons]
    exact ih (Ps ++ [e]) e2 G2 (by rw [hBP]; simp) q1 q2 q3 q4 _
end
