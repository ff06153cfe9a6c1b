/-! RULES 2: the heap -/
set_option maxRecDepth 100000
theorem Rep.arr {X : gX} {s : State} {G : gH} {H : Heap} (hR : Rep X s G H) (hK : KInv X s) {a i : Nat} (hi : i < 6) (ht : gc G a = i + 101 ∨ gc G a = i + 301) : ∃ (ty : FieldType) (cell : Cell), gTy[i]? = some ty ∧ H[a]? = some cell ∧ s.isArrayOf cell ty ∧ cell.vm ≠ .unknown ∧ cell.vm.isStatics = false ∧ cell.slots.size = gl G a ∧ ∀ j, j < gl G a → cell.slots[j]? = some (gm G a j) := by
  obtain ⟨-, h2, -, h4⟩ := hR.2.2.2.2 a
  rcases ht with ht | ht
  · obtain ⟨-, a1, a2⟩ := h2 i ht (by omega)
    have hty : ∃ ty, gTy[i]? = some ty := ⟨_, List.getElem?_eq_getElem (by simp [gTy]; omega)⟩
    obtain ⟨ty, hty⟩ := hty
    refine ⟨ty, _, hty, a2, (hK.2.2.1 i ty a1 hty).1 _ _, (fun q => by cases q), rfl, arrV_size _ _ _, fun j hj => arrV_read _ _ hj⟩
  · obtain ⟨-, ty, a1, cell, a2⟩ := h4 i ht (by omega)
    exact ⟨ty, cell, a1, a2⟩
theorem Rep.upd {X : gX} {s : State} {G : gH} {H H' : Heap} {a j : Nat} {v : Value} (hR : Rep X s G H) (hz : H'.size = H.size) (ho : ∀ q, q ≠ a → H'[q]? = H[q]?) (hb : xb X ≤ a) (ha : gAt X s H' a (gc G a) (gl G a) (fun k => if k = j then v else gm G a k)) : Rep X s (gput G a j v) H' := by
  obtain ⟨h1, h2, h3, h4, h5⟩ := hR
  refine ⟨hz.trans h1, by rw [hz]; exact h2, fun q hq => ?_, h4, fun b => ?_⟩
  · rw [ho q (by omega)]; exact h3 q hq
  · by_cases hq : b = a
    · subst hq
      have e : gm (gput G b j v) b = fun k => if k = j then v else gm G b k := by
        funext k
        rw [gm_put]
        by_cases hk : k = j <;> simp [hk]
      show gAt X s H' b (gc G b) (gl G b) (gm (gput G b j v) b)
      rw [e]
      exact ha
    · have e : gm (gput G a j v) b = gm G b := by
        funext k
        rw [gm_put, if_neg (fun z => hq z.1)]
      show gAt X s H' b (gc G b) (gl G b) (gm (gput G a j v) b)
      rw [e]
      exact (h5 b).kept (ho b hq)
theorem Rep.born {X : gX} {s : State} {G : gH} {H H' : Heap} {t N : Nat} {f : Nat → Value} (hR : Rep X s G H) (hz : H'.size = H.size + 1) (ho : ∀ q, q < H.size → H'[q]? = H[q]?) (ha : gAt X s H' (gs G) t N f) : Rep X s (gnew G t N f) H' := by
  obtain ⟨h1, h2, h3, h4, h5⟩ := hR
  refine ⟨by rw [hz, h1]; rfl, by omega, fun q hq => ?_, fun a ha => ?_, fun b => ?_⟩
  · rw [ho q (by omega)]; exact h3 q hq
  · rw [gs_new]
    rw [gc_new] at ha
    by_cases hq : a = gs G
    · omega
    · rw [if_neg hq] at ha
      exact Nat.lt_succ_of_lt (h4 a ha)
  · by_cases hq : b = gs G
    · subst hq
      have e : gm (gnew G t N f) (gs G) = f := by
        funext k
        rw [gm_new, if_pos rfl]
      rw [e, gc_new, if_pos rfl, gl_new, if_pos rfl]
      exact ha
    · have e : gm (gnew G t N f) b = gm G b := by
        funext k
        rw [gm_new, if_neg hq]
      rw [e, gc_new, if_neg hq, gl_new, if_neg hq]
      by_cases hl : b < H.size
      · exact (h5 b).kept (ho b hl)
      · have hc : gc G b = 0 := by
          by_cases z : gc G b = 0
          · exact z
          · exact absurd (h4 b z) (by omega)
        rw [hc]
        exact ⟨fun i hi => by omega, fun i hi => by omega, fun i hi => by omega, fun i hi => by omega⟩
theorem arrV_put {cA : ClassId} {N j : Nat} {f : Nat → Value} {v : Value} : (arrV cA N f).setSlot j v = arrV cA N (fun k => if k = j then v else f k) := arrV_store _ _ _ _ _
/-- a place of an own array is written -/
theorem Rep.arrPut {X : gX} {s : State} {G : gH} {H H' : Heap} {a i j : Nat} {v : Value} {cell : Cell} (hR : Rep X s G H) (ht : gc G a = i + 101) (hi : i < 5) (hc : H[a]? = some cell) (h' : H'[a]? = some (cell.setSlot j v)) (hz : H'.size = H.size) (ho : ∀ q, q ≠ a → H'[q]? = H[q]?) : Rep X s (gput G a j v) H' ∧ xb X ≤ a := by
  obtain ⟨-, h2, -, -⟩ := hR.2.2.2.2 a
  obtain ⟨a0, a1, a2⟩ := h2 i ht (by omega)
  cases hc.symm.trans a2
  rw [arrV_put] at h'
  refine ⟨hR.upd hz ho a0 ⟨fun i' q => by omega, fun i' q _ => ?_, fun i' q => by omega, fun i' q => by omega⟩, a0⟩
  have : i' = i := by omega
  subst this
  exact ⟨a0, a1, h'⟩
/-- what is at a receiver's address -/
theorem Rep.recv {X : gX} {s : State} {G : gH} {H : Heap} (hR : Rep X s G H) (hK : KInv X s) {a i : Nat} (hi : i < 27) (ht : gc G a = i + 1 ∨ gc G a = i + 201) {r : vw_C} (hr : gCl[i]? = some r) : ∃ cell : Cell, H[a]? = some cell ∧ cell.vm.isStatics = false ∧ s.vm.findClass r.1 = some cell.cls := by
  obtain ⟨h1, -, h3, -⟩ := hR.2.2.2.2 a
  have hf : s.vm.findClass r.1 = some ((xD X).1 i) := by
    by_cases h15 : i = 15
    · subst h15
      have : r.1 = RJ9 := by
        have := Option.some.inj ((show gCl[15]? = some (RJ9, TJ9, 2) from rfl).symm.trans hr)
        rw [← this]
      rw [this]; exact hK.2.1.1
    · exact (hK.1 i r h15 hr).2.1
  rcases ht with ht | ht
  · obtain ⟨-, -, r', h0, cell, q1, q2, q3, -⟩ := h1 i ht (by omega)
    exact ⟨cell, q1, by rw [q3]; rfl, by rw [q2]; exact hf⟩
  · obtain ⟨-, r', h0, cell, q1, q2, -, q3, -⟩ := h3 i ht (by omega)
    exact ⟨cell, q1, q3, by rw [q2]; exact hf⟩
def FG (own : String) (idx tag k : Nat) : Prop := ∀ (X : gX) (s : State) (args : Array Value), (∀ w ∈ lw_all, w.before args s = true) → KInv X s →
  ∃ (ref name desc : String) (cf : ClassId) (kf : Class) (fi : Nat) (f : Field) (i : Nat) (r : vw_C), ((Cond.fieldLink own idx ref name desc).before args s = true ∨ ∃ host, (Cond.fieldLinkNest own idx ref name desc host).before args s = true) ∧ s.fieldFound? ref name desc = some (cf, kf, fi, f) ∧ f.isStatic = false ∧ (tag = i + 1 ∨ tag = i + 201) ∧ i < 27 ∧ gCl[i]? = some r ∧ k < r.2.2 ∧ f.slot = (xD X).2 i k
def PG (own : String) (idx tag k : Nat) (ty : FieldType) (fin : Bool) : Prop := ∀ (X : gX) (s : State) (args : Array Value), (∀ w ∈ lw_all, w.before args s = true) → KInv X s →
  ∃ (ref name desc : String) (cf : ClassId) (kf : Class) (fi : Nat) (f : Field) (i : Nat) (r : vw_C), ((Cond.fieldLink own idx ref name desc).before args s = true ∨ ∃ host, (Cond.fieldLinkNest own idx ref name desc host).before args s = true) ∧ s.fieldFound? ref name desc = some (cf, kf, fi, f) ∧ f.isStatic = false ∧ tag = i + 1 ∧ i < 27 ∧ gCl[i]? = some r ∧ k < r.2.2 ∧ f.slot = (xD X).2 i k ∧
    (fin = false → hasFlag f.accessFlags Acc.final = false) ∧ (fin = true → ∀ mcls, s.vm.findClass own = some mcls → mcls = cf) ∧ (∀ v, narrow ty v = v → fits ty v = true → narrow f.type v = v ∧ s.fitsSlot ((xD X).1 i) .none f.slot v = true) ∧ ∀ x y, x < r.2.2 → y < r.2.2 → x ≠ y → (xD X).2 i x ≠ (xD X).2 i y
section
variable {X : gX} {Y : gM} {d : Nat} {Q : Option Value → gH → Prop} {k n : Nat} {G : gH} {pc : Nat} {l : List (Option Value)} {st : List Value}
theorem w_getf {idx a j : Nat} (hF : FG (my Y).cls idx (gc G a) j) (hd : decode (mc Y) pc = .ok (.getfield idx, 3)) (h : Wp X Y d Q k n G (pc + 3) l (gm G a j :: st)) : Wp X Y d Q k n G pc l (.ref a :: st) := by
  intro p lc e R s m args below meth c cm sm C h1 h2 H locs cells slots ls r1 r2 r3 r4 r5 r6
  have kk := h p lc e R s m args below meth c cm sm C h1 h2 H locs cells slots ls r1 r2 r3 r4 r5 r6
  obtain ⟨hx, hb, hr, hlk, hml, hown, hnm, hts, hK, -⟩ := C
  obtain ⟨ref, name, desc, cf, kf, fi, f, i, r, hlink, hi, hst, ht, h27, hr0, hj, hsl⟩ := hF X s args hts hK
  have hcell : ∃ cell : Cell, H[a]? = some cell ∧ cell.vm ≠ .unknown ∧ cell.slots[f.slot]? = some (gm G a j) := by
    obtain ⟨q1, -, q3, -⟩ := r1.2.2.2.2 a
    rcases ht with ht | ht
    · obtain ⟨-, -, r', b1, cell, b2, b3, b4, b5⟩ := q1 i ht (by omega)
      cases hr0.symm.trans b1
      exact ⟨cell, b2, by rw [b4]; exact fun z => (by cases z), by rw [hsl]; exact b5 j hj⟩
    · obtain ⟨-, r', b1, cell, b2, b3, b4, b5, b6⟩ := q3 i ht (by omega)
      cases hr0.symm.trans b1
      exact ⟨cell, b2, b4, by rw [hsl]; exact b6 j hj⟩
  obtain ⟨cell, c1, c2, c3⟩ := hcell
  rcases hlink with hlink | ⟨host, hlink⟩
  · exact W.getf hx hb hown hlink hi hst c1 c2 c3 rfl rfl hd kk
  · exact va_Wgetf hx hb hown hlink hi hst c1 c2 c3 rfl rfl hd kk
theorem w_putf {idx a j : Nat} {ty : FieldType} {fin : Bool} {v : Value} (hF : PG (my Y).cls idx (gc G a) j ty fin) (hfin : fin = true → (my Y).name = "<init>") (hn : narrow ty v = v) (hf : fits ty v = true) (hd : decode (mc Y) pc = .ok (.putfield idx, 3)) (h : Wp X Y d Q k n (gput G a j v) (pc + 3) l st) : Wp X Y d Q k n G pc l (v :: .ref a :: st) := by
  intro p lc e R s m args below meth c cm sm C h1 h2 H locs cells slots ls r1 r2 r3 r4 r5 r6
  have C' := C
  obtain ⟨hx, hb, hr, hlk, hml, hown, hnm, hts, hK, -⟩ := C
  obtain ⟨ref, name, desc, cf, kf, fi, f, i, r, hlink, hi, hst, ht, h27, hr0, hj, hsl, hf1, hf2, hsto, hap⟩ := hF X s args hts hK
  have hn2 := hsto v hn hf
  obtain ⟨q1, -, -, -⟩ := r1.2.2.2.2 a
  obtain ⟨hba, h15, r', b1, cell, b2, b3, b4, b5⟩ := q1 i ht (by omega)
  cases hr0.symm.trans b1
  have hlt : f.slot < cell.slots.size := by rw [hsl]; exact k2_hasslot (b5 j hj)
  have hal : a < H.size := (Array.getElem?_eq_some_iff.mp b2).1
  have hff : hasFlag f.accessFlags Acc.final = false ∨ (m.cls = cf ∧ meth.name = "<init>") := by
    cases fin with
    | false => exact Or.inl (hf1 rfl)
    | true => exact Or.inr ⟨hf2 rfl _ hown, by rw [hnm]; exact hfin rfl⟩
  have hR' : Rep X s (gput G a j v) (H.setIfInBounds a (cell.setSlot f.slot v)) := by
    refine r1.upd (by simp) (fun q hq => by simp [Array.getElem?_setIfInBounds, Ne.symm hq]) hba ⟨fun i' q _ => ?_, fun i' q => by omega, fun i' q => by omega, fun i' q => by omega⟩
    have : i' = i := by omega
    subst this
    refine ⟨hba, h15, r, hr0, ?_⟩
    have e0 : (H.setIfInBounds a (cell.setSlot f.slot v))[a]? = some (cell.setSlot f.slot v) := by simp [Array.getElem?_setIfInBounds, hal]
    refine t_OB.to (V := updV (gm G a) j v) ⟨cell.setSlot f.slot v, e0, b3, b4, ?_⟩ (fun z hz => rfl)
    rw [hsl]
    exact t_set b5 hap hj v
  have kk := h p lc e R s m args below meth c cm sm C' h1 h2 _ (locs ++ [⟨a, f.slot⟩]) cells slots ls hR' (by simpa using r2) (fun q hq => by
    rcases List.mem_append.mp hq with z | z
    · exact r3 q z
    · rw [List.mem_singleton.mp z]; exact hba) r4 r5 r6
  rcases hlink with hlink | ⟨host, hlink⟩
  · exact W.putf hx hb hown hlink hi hst hff b2 (by rw [b4]; exact fun z => (by cases z)) hlt hn2.1 (by rw [b3, b4]; exact hn2.2) rfl rfl hd kk
  · exact va_Wputf hx hb hown hlink hi hst hff b2 (by rw [b4]; exact fun z => (by cases z)) hlt hn2.1 (by rw [b3, b4]; exact hn2.2) rfl rfl hd kk
theorem vp_in_of' {j : Int32} {N : Nat} (h0 : 0 ≤ j.toInt) (h1 : j.toInt.toNat < N) : ¬ (j < 0 ∨ N ≤ j.toNatClampNeg) := by
  rintro (q | q)
  · have := Int32.lt_iff_toInt_lt.mp q
    have e : (0 : Int32).toInt = 0 := rfl
    omega
  · have e : j.toNatClampNeg = j.toInt.toNat := rfl
    omega
theorem w_alen {a i : Nat} (hi : i < 6) (ht : gc G a = i + 101 ∨ gc G a = i + 301) (hd : decode (mc Y) pc = .ok (.arraylength, 1)) (h : Wp X Y d Q k n G (pc + 1) l (.int (iI (gl G a)) :: st)) : Wp X Y d Q k n G pc l (.ref a :: st) := by
  intro p lc e R s m args below meth c cm sm C h1 h2 H locs cells slots ls r1 r2 r3 r4 r5 r6
  have kk := h p lc e R s m args below meth c cm sm C h1 h2 H locs cells slots ls r1 r2 r3 r4 r5 r6
  obtain ⟨ty, cell, -, c1, c2, c3, -, c4, c5⟩ := r1.arr C.2.2.2.2.2.2.2.2.1 hi ht
  exact W.alen C.1 C.2.1 c1 c2 (by rw [c4]; exact iI_of _) rfl rfl hd kk
theorem w_iald {a : Nat} {j : Int32} (ht : gc G a = 102 ∨ gc G a = 302) (h0 : 0 ≤ j.toInt) (h1 : j.toInt.toNat < gl G a) (hd : decode (mc Y) pc = .ok (.iaload, 1)) (h : Wp X Y d Q k n G (pc + 1) l (gm G a j.toInt.toNat :: st)) : Wp X Y d Q k n G pc l (.int j :: .ref a :: st) := by
  intro p lc e R s m args below meth c cm sm C g1 g2 H locs cells slots ls r1 r2 r3 r4 r5 r6
  have kk := h p lc e R s m args below meth c cm sm C g1 g2 H locs cells slots ls r1 r2 r3 r4 r5 r6
  obtain ⟨ty, cell, hty, c1, c2, c3, -, c4, c5⟩ := r1.arr C.2.2.2.2.2.2.2.2.1 (i := 1) (by decide) ht
  cases hty
  exact W.iald C.1 C.2.1 c1 c2 c3 (by rw [c4]; exact vp_in_of' h0 h1) (c5 _ h1) rfl rfl hd kk
theorem w_bald {a : Nat} {j : Int32} (ht : (gc G a = 101 ∨ gc G a = 301) ∨ gc G a = 103 ∨ gc G a = 303) (h0 : 0 ≤ j.toInt) (h1 : j.toInt.toNat < gl G a) (hd : decode (mc Y) pc = .ok (.baload, 1)) (h : Wp X Y d Q k n G (pc + 1) l (gm G a j.toInt.toNat :: st)) : Wp X Y d Q k n G pc l (.int j :: .ref a :: st) := by
  intro p lc e R s m args below meth c cm sm C g1 g2 H locs cells slots ls r1 r2 r3 r4 r5 r6
  have kk := h p lc e R s m args below meth c cm sm C g1 g2 H locs cells slots ls r1 r2 r3 r4 r5 r6
  rcases ht with ht | ht
  · obtain ⟨ty, cell, hty, c1, c2, c3, -, c4, c5⟩ := r1.arr C.2.2.2.2.2.2.2.2.1 (i := 0) (by decide) ht
    cases hty
    exact W.bald C.1 C.2.1 c1 c2 c3 (by rw [c4]; exact vp_in_of' h0 h1) (c5 _ h1) rfl rfl hd kk
  · obtain ⟨ty, cell, hty, c1, c2, c3, -, c4, c5⟩ := r1.arr C.2.2.2.2.2.2.2.2.1 (i := 2) (by decide) ht
    cases hty
    exact W.zald C.1 C.2.1 c1 c2 c3 (by rw [c4]; exact vp_in_of' h0 h1) (c5 _ h1) rfl rfl hd kk
theorem w_aald {a i : Nat} {j : Int32} (hi : 3 ≤ i ∧ i < 6) (ht : gc G a = i + 101 ∨ gc G a = i + 301) (h0 : 0 ≤ j.toInt) (h1 : j.toInt.toNat < gl G a) (hd : decode (mc Y) pc = .ok (.aaload, 1)) (h : Wp X Y d Q k n G (pc + 1) l (gm G a j.toInt.toNat :: st)) : Wp X Y d Q k n G pc l (.int j :: .ref a :: st) := by
  intro p lc e R s m args below meth c cm sm C g1 g2 H locs cells slots ls r1 r2 r3 r4 r5 r6
  have kk := h p lc e R s m args below meth c cm sm C g1 g2 H locs cells slots ls r1 r2 r3 r4 r5 r6
  obtain ⟨ty, cell, hty, c1, c2, c3, -, c4, c5⟩ := r1.arr C.2.2.2.2.2.2.2.2.1 (i := i) hi.2 ht
  have hr : ty.isReference = true := by
    have : i = 3 ∨ i = 4 ∨ i = 5 := by omega
    rcases this with rfl | rfl | rfl <;> cases hty <;> rfl
  exact W.aald C.1 C.2.1 c1 c2 hr c3 (by rw [c4]; exact vp_in_of' h0 h1) (c5 _ h1) rfl rfl hd kk
theorem w_iast {a : Nat} {j x : Int32} (ht : gc G a = 102) (h0 : 0 ≤ j.toInt) (h1 : j.toInt.toNat < gl G a) (hd : decode (mc Y) pc = .ok (.iastore, 1)) (h : Wp X Y d Q k n (gput G a j.toInt.toNat (.int x)) (pc + 1) l st) : Wp X Y d Q k n G pc l (.int x :: .int j :: .ref a :: st) := by
  intro p lc e R s m args below meth c cm sm C g1 g2 H locs cells slots ls r1 r2 r3 r4 r5 r6
  obtain ⟨ty, cell, hty, c1, c2, c3, -, c4, c5⟩ := r1.arr C.2.2.2.2.2.2.2.2.1 (i := 1) (by decide) (Or.inl ht)
  cases hty
  refine W.iast C.1 C.2.1 c1 c2 c3 (by rw [c4]; exact vp_in_of' h0 h1) rfl rfl hd fun H' e1 e2 e3 => ?_
  have hA := r1.arrPut (i := 1) ht (by decide) c1 e1 e2 e3
  exact h p lc e R s m args below meth c cm sm C g1 g2 H' _ cells slots ls hA.1 (by rw [e2]; exact r2) (fun q hq => by
    rcases List.mem_append.mp hq with z | z
    · exact r3 q z
    · rw [List.mem_singleton.mp z]; exact hA.2) r4 r5 r6
theorem w_bast {a : Nat} {j x : Int32} (ht : (gc G a = 101 ∧ narrow .byte (.int x) = .int x) ∨ (gc G a = 103 ∧ narrow .boolean (.int x) = .int x)) (h0 : 0 ≤ j.toInt) (h1 : j.toInt.toNat < gl G a) (hd : decode (mc Y) pc = .ok (.bastore, 1)) (h : Wp X Y d Q k n (gput G a j.toInt.toNat (.int x)) (pc + 1) l st) : Wp X Y d Q k n G pc l (.int x :: .int j :: .ref a :: st) := by
  intro p lc e R s m args below meth c cm sm C g1 g2 H locs cells slots ls r1 r2 r3 r4 r5 r6
  rcases ht with ⟨ht, hn⟩ | ⟨ht, hn⟩
  · obtain ⟨ty, cell, hty, c1, c2, c3, -, c4, c5⟩ := r1.arr C.2.2.2.2.2.2.2.2.1 (i := 0) (by decide) (Or.inl ht)
    cases hty
    refine W.bast C.1 C.2.1 c1 c2 c3 (by rw [c4]; exact vp_in_of' h0 h1) rfl rfl hd fun H' e1 e2 e3 => ?_
    rw [hn] at e1
    have hA := r1.arrPut (i := 0) ht (by decide) c1 e1 e2 e3
    exact h p lc e R s m args below meth c cm sm C g1 g2 H' _ cells slots ls hA.1 (by rw [e2]; exact r2) (fun q hq => by
      rcases List.mem_append.mp hq with z | z
      · exact r3 q z
      · rw [List.mem_singleton.mp z]; exact hA.2) r4 r5 r6
  · obtain ⟨ty, cell, hty, c1, c2, c3, -, c4, c5⟩ := r1.arr C.2.2.2.2.2.2.2.2.1 (i := 2) (by decide) (Or.inl ht)
    cases hty
    refine W.zast C.1 C.2.1 c1 c2 c3 (by rw [c4]; exact vp_in_of' h0 h1) rfl rfl hd fun H' e1 e2 e3 => ?_
    rw [hn] at e1
    have hA := r1.arrPut (i := 2) ht (by decide) c1 e1 e2 e3
    exact h p lc e R s m args below meth c cm sm C g1 g2 H' _ cells slots ls hA.1 (by rw [e2]; exact r2) (fun q hq => by
      rcases List.mem_append.mp hq with z | z
      · exact r3 q z
      · rw [List.mem_singleton.mp z]; exact hA.2) r4 r5 r6
theorem w_aastN {a i : Nat} {j : Int32} (hi : i = 3 ∨ i = 4) (ht : gc G a = i + 101) (h0 : 0 ≤ j.toInt) (h1 : j.toInt.toNat < gl G a) (hd : decode (mc Y) pc = .ok (.aastore, 1)) (h : Wp X Y d Q k n (gput G a j.toInt.toNat .null) (pc + 1) l st) : Wp X Y d Q k n G pc l (.null :: .int j :: .ref a :: st) := by
  intro p lc e R s m args below meth c cm sm C g1 g2 H locs cells slots ls r1 r2 r3 r4 r5 r6
  obtain ⟨ty, cell, hty, c1, c2, c3, -, c4, c5⟩ := r1.arr C.2.2.2.2.2.2.2.2.1 (i := i) (by omega) (Or.inl ht)
  have hC : ∃ C : String, ty = .object C := by
    rcases hi with rfl | rfl <;> cases hty <;> exact ⟨_, rfl⟩
  obtain ⟨C0, rfl⟩ := hC
  refine va_WaastN C.1 C.2.1 c1 c2 c3 (by rw [c4]; exact vp_in_of' h0 h1) rfl rfl hd fun H' e1 e2 e3 => ?_
  have hA := r1.arrPut (i := i) ht (by omega) c1 e1 e2 e3
  exact h p lc e R s m args below meth c cm sm C g1 g2 H' _ cells slots ls hA.1 (by rw [e2]; exact r2) (fun q hq => by
    rcases List.mem_append.mp hq with z | z
    · exact r3 q z
    · rw [List.mem_singleton.mp z]; exact hA.2) r4 r5 r6
end
