/-! NATIVES: arraycopy, clone, class objects, and the constants that ex leaves -/
set_option maxRecDepth 100000
/-- k first places of a0 come to a -/
def gcpy (G : gH) (a0 a k : Nat) : gH := (G.1, G.2.1, G.2.2.1, fun b j => if b = a ∧ j < k then gm G a0 j else G.2.2.2 b j)
theorem gs_cpy {G : gH} {a0 a k : Nat} : gs (gcpy G a0 a k) = gs G := rfl
theorem gc_cpy {G : gH} {a0 a k : Nat} : gc (gcpy G a0 a k) = gc G := rfl
theorem gl_cpy {G : gH} {a0 a k : Nat} : gl (gcpy G a0 a k) = gl G := rfl
theorem gm_cpy {G : gH} {a0 a k b j : Nat} : gm (gcpy G a0 a k) b j = if b = a ∧ j < k then gm G a0 j else gm G b j := rfl
theorem Rep.setA {X : gX} {s : State} {G G' : gH} {H H' : Heap} {a i : Nat} {V : Nat → Value} (hR : Rep X s G H) (ht : gc G a = i + 101) (hi : i < 5) (hba : xb X ≤ a) (h' : H'[a]? = some (arrV (xA X i) (gl G a) V)) (hz : H'.size = H.size) (ho : ∀ q, q ≠ a → H'[q]? = H[q]?) (e1 : gs G' = gs G) (e2 : gc G' = gc G) (e3 : gl G' = gl G) (e4 : gm G' a = V) (e5 : ∀ b, b ≠ a → gm G' b = gm G b) : Rep X s G' H' := by
  obtain ⟨h1, h2, h3, h4, h5⟩ := hR
  refine ⟨by rw [hz, e1]; exact h1, by rw [hz]; exact h2, fun q hq => ?_, fun b hb => by rw [e2] at hb; rw [e1]; exact h4 b hb, fun b => ?_⟩
  · rw [ho q (by omega)]; exact h3 q hq
  · by_cases hq : b = a
    · subst hq
      rw [e2, e3, e4]
      refine ⟨fun i' q => by omega, fun i' q _ => ?_, fun i' q => by omega, fun i' q => by omega⟩
      have : i' = i := by omega
      subst this
      exact ⟨hba, hi, h'⟩
    · rw [e2, e3, e5 b hq]
      exact (h5 b).kept (ho b hq)
section
variable {X : gX} {Y : gM} {d : Nat} {Q : Option Value → gH → Prop} {k n : Nat} {G : gH} {pc : Nat} {l : List (Option Value)} {st : List Value}
theorem w_ldcw {idx : Nat} {v : Int32} (w1 : Cond.constant (my Y).cls idx v ∈ lw_all) (hd : decode (mc Y) pc = .ok (.ldc_w idx, 3)) (h : Wp X Y d Q k n G (pc + 3) l (.int v :: st)) : Wp X Y d Q k n G pc l st := by
  intro p lc e R s m args below meth c cm sm C g1 g2 H locs cells slots ls r1 r2 r3 r4 r5 r6
  have kk := h p lc e R s m args below meth c cm sm C g1 g2 H locs cells slots ls r1 r2 r3 r4 r5 r6
  exact lv_ldcw C.1 C.2.1 C.2.2.2.2.2.1 (C.2.2.2.2.2.2.2.1 _ w1) hd kk
theorem w_ldcS (ho : (my Y).cls = "WireDigs$Reader") (hd : decode (mc Y) pc = .ok (.ldc 76, 2)) (h : ∀ a, xs X 6 = .ref a → Wp X Y d Q k n G (pc + 2) l (.ref a :: st)) : Wp X Y d Q k n G pc l st := by
  intro p lc e R s m args below meth c cm sm C g1 g2 H locs cells slots ls r1 r2 r3 r4 r5 r6
  obtain ⟨-, a, e1, hv⟩ := C.2.2.2.2.2.2.2.2.1.2.2.2.2.2.2.2.2.2
  have kk := h a e1 p lc e R s m args below meth c cm sm C g1 g2 H locs cells slots ls r1 r2 r3 r4 r5 r6
  have hown := C.2.2.2.2.2.1
  rw [ho] at hown
  exact va_ldcS C.1 C.2.1 hown hv hd kk
theorem w_ldcM {idx : Nat} (w1 : Cond.classLink (my Y).cls idx "[Ljava/lang/Object;" ∈ lw_all) (hd : decode (mc Y) pc = .ok (.ldc idx, 2)) (h : ∀ a, xs X 7 = .ref a → Wp X Y d Q k n G (pc + 2) l (.ref a :: st)) : Wp X Y d Q k n G pc l st := by
  intro p lc e R s m args below meth c cm sm C g1 g2 H locs cells slots ls r1 r2 r3 r4 r5 r6
  obtain ⟨⟨mi, e1, hM⟩, -⟩ := C.2.2.2.2.2.2.2.2.1.2.2.2.2.2.2.2.2.2
  have kk := h mi e1 p lc e R s m args below meth c cm sm C g1 g2 H locs cells slots ls r1 r2 r3 r4 r5 r6
  exact va_ldcM C.1 C.2.1 C.2.2.2.2.2.1 (C.2.2.2.2.2.2.2.1 _ w1) hM hd kk
theorem w_getC {idx a : Nat} (w1 : Cond.methodLink (my Y).cls idx ⟨"java/lang/Object", "getClass", "()Ljava/lang/Class;"⟩ ∈ lw_all) (hd0 : 1 ≤ d) (hrl : st.length ≤ 4) (ht : gc G a = 104) (hd : decode (mc Y) pc = .ok (.invokevirtual idx, 3)) (h : ∀ mi, xs X 7 = .ref mi → Wp X Y d Q k n G (pc + 3) l (.ref mi :: st)) : Wp X Y d Q k n G pc l (.ref a :: st) := by
  intro p lc e R s m args below meth c cm sm C g1 g2 H locs cells slots ls r1 r2 r3 r4 r5 r6
  have C' := C
  obtain ⟨hx, hb, hre, hlk, hml, hown, hnm, hts, hK, hfr, hlo, hb0, hh0⟩ := C
  obtain ⟨⟨mi, e1, hM⟩, -⟩ := hK.2.2.2.2.2.2.2.2.2
  have kk := h mi e1 p lc e R s m args below meth c cm sm C' g1 g2 H locs cells slots ls r1 r2 r3 r4 r5 r6
  obtain ⟨-, b2, -, -⟩ := r1.2.2.2.2 a
  obtain ⟨-, -, c0⟩ := b2 3 ht (by omega)
  have hRA := (hK.2.2.1 3 _ (by decide) rfl).2
  obtain ⟨kA, cmp, q1, q2, q3, q4⟩ := hRA
  refine va_getC hx hb (by rw [hml]; exact r6.1.symm) hown (hts _ w1) (va_Nw.use rfl (hK.2.2.2.1 _ q3210 rfl)) (hts _ q3209) (hts _ q1101) (hts _ q1137) hM ⟨_, c0, rfl, ?_⟩ (by omega) (by have := rest_room hrl; omega) hd kk
  exact q4
theorem iI_clamp {z : Int} (h : 0 ≤ z) (h2 : z < 2147483648) : (iI z).toNatClampNeg = z.toNat := by
  show (iI z).toInt.toNat = _
  rw [iI_toInt ⟨by omega, h2⟩]
theorem iI_nneg {z : Int} (h : 0 ≤ z) (h2 : z < 2147483648) : ¬ iI z < 0 := fun q => by
  have := Int32.lt_iff_toInt_lt.mp q
  rw [iI_toInt ⟨by omega, h2⟩] at this
  have e : (0 : Int32).toInt = 0 := rfl
  omega
/-- System.arraycopy of the first places: bytes, references -/
theorem w_acopy {idx a0 a i : Nat} {z : Int} (w : Cond.methodLink (my Y).cls idx arraycopyName ∈ lw_all) (hi : i = 0 ∨ i = 3) (h0 : gc G a0 = i + 101) (h1 : gc G a = i + 101) (hz : 0 ≤ z) (hz0 : z.toNat ≤ gl G a0) (hz1 : z.toNat ≤ gl G a) (hz2 : z < 2147483648) (hel : i = 3 → ∀ j, j < z.toNat → gm G a0 j = .null ∨ ∃ b, gm G a0 j = .ref b ∧ SG 3 (gc G b)) (hel0 : i = 0 → ∀ j, j < z.toNat → ∃ x, gm G a0 j = .int x ∧ fits .byte (.int x) = true) (hd : decode (mc Y) pc = .ok (.invokestatic idx, 3)) (hrl : st.length ≤ 4) (hd0 : 1 ≤ d) (h : Wp X Y d Q k n (gcpy G a0 a z.toNat) (pc + 3) l st) : Wp X Y d Q k n G pc l (.int (iI z) :: .int (iI 0) :: .ref a :: .int (iI 0) :: .ref a0 :: st) := by
  intro p lc e R s m args below meth c cm sm C g1 g2 H locs cells slots ls r1 r2 r3 r4 r5 r6
  have C' := C
  obtain ⟨hx, hb, hre, hlk, hml, hown, hnm, hts, hK, hfr, hlo, hb0, hh0⟩ := C
  obtain ⟨-, b2, -, -⟩ := r1.2.2.2.2 a0
  obtain ⟨-, i5, c0⟩ := b2 i h0 (by omega)
  obtain ⟨-, b2', -, -⟩ := r1.2.2.2.2 a
  obtain ⟨hba, -, c1⟩ := b2' i h1 (by omega)
  have z0 : (iI 0).toNatClampNeg = 0 := rfl
  have zz := iI_clamp hz hz2
  have ti : (iI z).toInt = z := iI_toInt ⟨by omega, hz2⟩
  have t0 : (iI 0).toInt = 0 := rfl
  have key : ∀ ty, gTy[i]? = some ty → (i = 0 ∧ ty = .byte ∨ i = 3 ∧ ty = .object "java/lang/Object") → W p lc e R s m args below meth c H locs cells slots (MQ below (gQc X Q) args s cm sm (fun q => xb X ≤ q)) (F0 m pc ls (.int (iI z) :: .int (iI 0) :: .ref a :: .int (iI 0) :: .ref a0 :: st)) := by
    intro ty hty hcs
    obtain ⟨-, kA, hkA, cmp, hkind⟩ := (hK.2.2.1 i ty i5 hty).1 (gl G a0) (gm G a0)
    intro T hT XS
    obtain ⟨vm', X', step⟩ := XS.arraycopy hx hown (hts _ w) (hts _ q1545) (hts _ q1544) (hts _ q144) (src := a0) (dst := a) (cs := arrV (xA X i) (gl G a0) (gm G a0)) (cd := arrV (xA X i) (gl G a) (gm G a)) (srcPos := iI 0) (destPos := iI 0) (n := iI z) (ks := kA) (kd := kA) (by rw [hT]; exact c0) (by rw [hT]; exact c1)
      (fun _ h => by cases h) (fun _ h => by cases h) (fun h => by cases h) (fun h => by cases h) hkA hkA hkind hkind (by rcases hcs with ⟨-, rfl⟩ | ⟨-, rfl⟩ <;> rfl) (by decide) (by decide) (iI_nneg hz hz2)
      (by rw [ti, t0, arrV_size]; omega)
      (by rw [ti, t0, arrV_size]; omega)
      (fun vm₁ hal j hj => by
        rw [zz] at hj
        have e : (arrV (xA X i) (gl G a0) (gm G a0)).slots.getD ((iI 0).toNatClampNeg + j) .null = gm G a0 j := by
          rw [z0, Nat.zero_add, Array.getD_eq_getD_getElem?, arrV_read _ _ (by omega)]
          rfl
        rw [e]
        rcases hcs with ⟨rfl, rfl⟩ | ⟨rfl, rfl⟩
        · obtain ⟨x, q1, q2⟩ := hel0 rfl j hj
          rw [q1]
          exact ⟨q2, trivial⟩
        · rcases hel rfl j hj with q | ⟨b, q, C0, jj, r, hC0, hty', j27, j15, hvt, hr, w1⟩
          · rw [q]; exact ⟨rfl, trivial⟩
          · rw [q]
            cases hty'
            obtain ⟨cv, v1, v2, v3⟩ := r1.recv hK j27 hvt hr
            obtain ⟨cc0, tt0, f1, f2, f3⟩ := Cond.castable_spec (va_Nw.use (A := args) rfl (hK.2.2.2.1 _ w1 rfl))
            obtain ⟨kA', comp', s1, s2, s3, -⟩ := (hK.2.2.1 3 _ (by decide) hty).2
            cases hkA.symm.trans s1
            cases hkind.symm.trans s2
            cases v3.symm.trans f1
            cases s3.symm.trans f2
            obtain ⟨kC, hkC, -⟩ := Vm.findClass_spec v3
            obtain ⟨kE, hkE, -⟩ := Vm.findClass_spec s3
            obtain ⟨kC', hkC', -⟩ := hal.2.2 _ _ hkC
            obtain ⟨kE', hkE', -⟩ := hal.2.2 _ _ hkE
            refine ⟨rfl, cv, (show T.heap[b]? = some cv by rw [hT]; exact v1), (fun q h => by rw [h] at v2; cases v2), ⟨kC', hkC'⟩, ⟨kE', hkE'⟩, ?_⟩
            show vm₁.assignable _ _ = true
            rw [hal.assignable]
            exact f3)
      (g := F0 m pc ls (.int (iI z) :: .int (iI 0) :: .ref a :: .int (iI 0) :: .ref a0 :: st)) rfl (by rw [hml]; exact r6.1) (rest := st) rfl (by rw [hb]; exact hd) (by omega) (by
        have h8 := rest_room hrl
        have hw : nativeFrameWords "java/lang/System" "arraycopy" 5 = 7 := by decide
        show 2 * 0 + _ + _ ≤ _
        omega)
    have e1 : copied (arrV (xA X i) (gl G a0) (gm G a0)) (arrV (xA X i) (gl G a) (gm G a)) (iI 0) (iI 0) (iI z) = arrV (xA X i) (gl G a) (va_cpy (gm G a0) (gm G a) (iI 0).toNatClampNeg (iI 0).toNatClampNeg (iI z).toNatClampNeg) := va_copied (fun v => v) _ _ (gm G a0) (gm G a) (by rw [z0, zz]; omega)
    rw [e1] at X' step
    have hl : a < H.size := (Array.getElem?_eq_some_iff.mp c1).1
    have hR' : Rep X s (gcpy G a0 a z.toNat) (H.setIfInBounds a (arrV (xA X i) (gl G a) (va_cpy (gm G a0) (gm G a) (iI 0).toNatClampNeg (iI 0).toNatClampNeg (iI z).toNatClampNeg))) := by
      refine r1.setA (V := va_cpy (gm G a0) (gm G a) (iI 0).toNatClampNeg (iI 0).toNatClampNeg (iI z).toNatClampNeg) h1 i5 hba (by simp [Array.getElem?_setIfInBounds, hl]) (by simp) (fun q hq => by simp [Array.getElem?_setIfInBounds, Ne.symm hq]) rfl rfl rfl ?_ (fun b hb => ?_)
      · funext j
        rw [gm_cpy]
        unfold va_cpy
        rw [z0, zz]
        simp
      · funext j
        rw [gm_cpy, if_neg (fun q => hb q.1)]
    have hheap : ((T.setVm vm').setCell a (arrV (xA X i) (gl G a) (va_cpy (gm G a0) (gm G a) (iI 0).toNatClampNeg (iI 0).toNatClampNeg (iI z).toNatClampNeg))).heap = H.setIfInBounds a (arrV (xA X i) (gl G a) (va_cpy (gm G a0) (gm G a) (iI 0).toNatClampNeg (iI 0).toNatClampNeg (iI z).toNatClampNeg)) := by rw [← hT]; rfl
    obtain ⟨t, a1, b1⟩ := h p lc e R s m args below meth c cm sm C' g1 g2 _ _ cells slots ls hR' (by simpa using r2) (fun q hq => by
      rcases List.mem_append.mp hq with u | u
      · exact r3 q u
      · obtain ⟨y, -, hy⟩ := List.mem_map.mp u
        rw [← hy]
        exact hba) r4 r5 r6 _ hheap X'
    exact ⟨t, step t a1, b1⟩
  rcases hi with rfl | rfl
  · exact key .byte rfl (Or.inl ⟨rfl, rfl⟩)
  · exact key (.object "java/lang/Object") rfl (Or.inr ⟨rfl, rfl⟩)
/-- an array of ints or booleans is cloned -/
theorem w_clone {idx a i : Nat} {ad : String} {ty : FieldType} (w : Cond.methodLink (my Y).cls idx ⟨ad, "clone", "()Ljava/lang/Object;"⟩ ∈ lw_all) (hi : (i = 1 ∧ ad = "[I" ∧ ty = .int) ∨ (i = 2 ∧ ad = "[Z" ∧ ty = .boolean)) (ht : gc G a = i + 101) (hf : ∀ j, j < gl G a → fits ty (gm G a j) = true) (hk : 1 ≤ k) (hn : gl G a ≤ n) (hd : decode (mc Y) pc = .ok (.invokevirtual idx, 3)) (hrl : st.length ≤ 4) (hd0 : 1 ≤ d) (h : Wp X Y d Q (k - 1) (n - gl G a) (gnew G (i + 101) (gl G a) (gm G a)) (pc + 3) l (.ref (gs G) :: st)) : Wp X Y d Q k n G pc l (.ref a :: st) := by
  intro p lc e R s m args below meth c cm sm C g1 g2 H locs cells slots ls r1 r2 r3 r4 r5 r6
  have C' := C
  obtain ⟨hx, hb, hre, hlk, hml, hown, hnm, hts, hK, hfr, hlo, hb0, hh0⟩ := C
  have hi5 : i < 5 := by omega
  obtain ⟨-, b2, -, -⟩ := r1.2.2.2.2 a
  obtain ⟨-, -, c0⟩ := b2 i ht (by omega)
  have hsz : H.size = gs G := r1.1
  have hty : gTy[i]? = some ty := by rcases hi with ⟨rfl, -, rfl⟩ | ⟨rfl, -, rfl⟩ <;> rfl
  have hsame : (Cond.sameMethod ad "java/lang/Object" "clone" "()Ljava/lang/Object;").before args s = true := by
    rcases hi with ⟨-, rfl, -⟩ | ⟨-, rfl, -⟩
    · exact hts _ q1624
    · exact hts _ q1617
  have hsel : (Cond.selects ad ⟨ad, "clone", "()Ljava/lang/Object;"⟩ ⟨"java/lang/Object", "clone", "()Ljava/lang/Object;"⟩).before args s = true := by
    rcases hi with ⟨-, rfl, -⟩ | ⟨-, rfl, -⟩
    · exact hts _ q1625
    · exact hts _ q1620
  have hcl : va_Nw (.castable ad "java/lang/Cloneable") s := by
    rcases hi with ⟨-, rfl, -⟩ | ⟨-, rfl, -⟩
    · exact hK.2.2.2.1 _ q1626 rfl
    · exact hK.2.2.2.1 _ q1621 rfl
  have hnmA : s.vm.findClass ad = some (xA X i) := by
    have := (hK.2.2.1 i ty hi5 hty).2
    rcases hi with ⟨-, rfl, rfl⟩ | ⟨-, rfl, rfl⟩
    · exact this
    · exact this
  obtain ⟨cc0, tt0, f1, f2, f3⟩ := Cond.castable_spec (va_Nw.use (A := args) rfl hcl)
  cases hnmA.symm.trans f1
  obtain ⟨-, kA, hkA, cmp, hkind⟩ := (hK.2.2.1 i ty hi5 hty).1 (gl G a) (gm G a)
  intro T hT XS
  obtain ⟨-, kT, hkT, cmpT, hkindT⟩ := State.isArrayOf_alike XS.warmed.alike ((hK.2.2.1 i ty hi5 hty).1 (gl G a) (gm G a))
  obtain ⟨vm', X', step⟩ := XS.cloneArray hx hown (hts _ w) hsame (hts _ q1618) (hts _ q1619) hsel (a := a) (cell := arrV (xA X i) (gl G a) (gm G a)) (by rw [hT]; exact c0) (fun _ h => by cases h) (fun h => by cases h) hnmA f2 f3
    (fun j v hv => by
      have hj : j < gl G a := by
        have := (Array.getElem?_eq_some_iff.mp hv).1
        rw [arrV_size] at this
        exact this
      rw [arrV_read _ _ hj] at hv
      cases hv
      have hk' : T.vm.classes[xA X i]? = some kT := hkT
      simpa [State.fitsSlot, State.slotType?, arrV, hk', hkindT] using hf j hj)
    (g := F0 m pc ls (.ref a :: st)) rfl (by rw [hml]; exact r6.1) (rest := st) rfl (by rw [hb]; exact hd) (by omega) (by
      have h8 := rest_room hrl
      show 2 * 0 + _ + 14 ≤ _
      omega) (by omega) (by rw [arrV_size]; omega) (hloader := Vm.clonesLoader_of_array hkA hkind)
  rw [arrV_size] at X'
  have hcellE : ({ cls := (arrV (xA X i) (gl G a) (gm G a)).cls, slots := (arrV (xA X i) (gl G a) (gm G a)).slots } : Cell) = arrV (xA X i) (gl G a) (gm G a) := rfl
  rw [hcellE] at X' step
  have hR' : Rep X s (gnew G (i + 101) (gl G a) (gm G a)) (H.push (arrV (xA X i) (gl G a) (gm G a))) := by
    refine r1.born (by simp) (fun q hq => by rw [Array.getElem?_push, if_neg (Nat.ne_of_lt hq)]) ⟨fun i' q => by omega, fun i' q _ => ?_, fun i' q => by omega, fun i' q => by omega⟩
    have : i' = i := by omega
    subst this
    exact ⟨by have := r1.2.1; omega, hi5, by rw [← hsz]; simp⟩
  have hheap : ((T.setVm vm').pushCell (arrV (xA X i) (gl G a) (gm G a))).heap = H.push (arrV (xA X i) (gl G a) (gm G a)) := by rw [← hT]; rfl
  obtain ⟨t, a1, b1⟩ := h p lc e R s m args below meth c cm sm C' g1 g2 _ locs (cells + 1) (slots + gl G a) ls hR' (by simp; omega) r3 (by omega) (by omega) r6 _ hheap X'
  refine ⟨t, step t ?_, b1⟩
  rw [hT, hsz]
  exact a1
end
