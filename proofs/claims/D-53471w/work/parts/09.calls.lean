/-! RULES 3: making, casts, statics, constants, returns, calls -/
set_option maxRecDepth 100000
/-- what a class word at (own, idx) makes: its place in gCl -/
def NG (own : String) (idx i : Nat) : Prop := i < 27 ∧ i ≠ 15 ∧ ∃ e : gCE, gCls[i]? = some e ∧ Cond.classLink own idx e.1.1 ∈ lw_all ∧ Cond.instantiable e.1.1 e.1.2.2 ∈ lw_all ∧ Cond.initialized e.1.1 ∈ lw_all
/-- defaults and number of fields of the class at a place -/
def gDf (i : Nat) : List Value := match gCls[i]? with
  | some e => e.2.2
  | none => []
def gNf (i : Nat) : Nat := match gCls[i]? with
  | some e => e.1.2.2
  | none => 0
/-- a class word that a value of the tag passes: its class can be cast -/
def CG (own : String) (idx tag : Nat) : Prop := ∃ (i : Nat) (r : vw_C) (nm : String), i < 27 ∧ (tag = i + 1 ∨ tag = i + 201) ∧ gCl[i]? = some r ∧ Cond.classLink own idx nm ∈ lw_all ∧ ((nm = r.1 ∧ i ≠ 15) ∨ Cond.castable r.1 nm ∈ lw_tbl)
/-- instanceof that fails -/
def CN (own : String) (idx tag : Nat) : Prop := tag = 24 ∧ Cond.classLink own idx "java/util/HashMap$TreeNode" ∈ lw_all
/-- an array of references is made: place of the element type -/
def AG (own : String) (idx i : Nat) : Prop := ∃ C : String, (i = 3 ∨ i = 4) ∧ gTy[i]? = some (.object C) ∧ Cond.classLink own idx C ∈ lw_all ∧ Cond.arrayOver (.object C) ∈ lw_tbl
/-- an object of the tag may stand in an array with elements at the place i of gTy -/
def SG (i tag : Nat) : Prop := ∃ (C : String) (j : Nat) (r : vw_C), (i = 3 ∨ i = 4) ∧ gTy[i]? = some (.object C) ∧ j < 27 ∧ j ≠ 15 ∧ (tag = j + 1 ∨ tag = j + 201) ∧ gCl[j]? = some r ∧ Cond.castable r.1 C ∈ lw_tbl
def GS (own : String) (idx i : Nat) : Prop := ∃ q : String × String × String, gSt[i]? = some q ∧ ∃ ref : String, Cond.fieldLink own idx ref q.2.1 q.2.2 ∈ lw_all ∧ (ref = q.1 ∨ Cond.sameField ref q.1 q.2.1 q.2.2 ∈ lw_all)
def kDeft : FieldType → Value := defaultValue
section
variable {X : gX} {Y : gM} {d : Nat} {Q : Option Value → gH → Prop} {k n : Nat} {G : gH} {pc : Nat} {l : List (Option Value)} {st : List Value}
theorem w_new {idx i : Nat} (hN : NG (my Y).cls idx i) (hk : 1 ≤ k) (hn : gNf i ≤ n) (hd : decode (mc Y) pc = .ok (.new idx, 3)) (h : Wp X Y d Q (k - 1) (n - gNf i) (gnew G (i + 1) 0 (vp_V (gDf i))) (pc + 3) l (.ref (gs G) :: st)) : Wp X Y d Q k n G pc l st := by
  obtain ⟨h27, h15, e0, he, w1, w2, w3⟩ := hN
  intro p lc e R s m args below meth c cm sm C g1 g2 H locs cells slots ls r1 r2 r3 r4 r5 r6
  have C' := C
  obtain ⟨hx, hb, hr, hlk, hml, hown, hnm, hts, hK, -⟩ := C
  have hok := gCls_ok i e0 h15 he
  have hcl : gCl[i]? = some e0.1 := by rw [gCl_eq, List.getElem?_map, he]; rfl
  have hKn := hK.1 i e0.1 h15 hcl
  have hN0 : gNf i = e0.1.2.2 := by simp [gNf, he]
  have hD0 : gDf i = e0.2.2 := by simp [gDf, he]
  rw [hN0] at hn h
  rw [hD0] at h
  refine W.newcK hx hb hown (hts _ w1) (hts _ w2) (hts _ w3) rfl hd (by omega) (by omega) hKn.2.1 rfl fun H1 kC hkC e1 z1 o1 => ?_
  have hsz : H.size = gs G := r1.1
  have hR : Rep X s (gnew G (i + 1) 0 (vp_V e0.2.2)) H1 := by
    refine r1.born z1 o1 ⟨fun i' q _ => ?_, fun i' q => by omega, fun i' q => by omega, fun i' q => by omega⟩
    have : i' = i := by omega
    subst this
    refine ⟨by have := r1.2.1; omega, h15, e0.1, hcl, ?_⟩
    rw [← hsz]
    exact (u_born e0.2.1 hts hok.1 hKn hkC e1 hok.2.1).to hok.2.2.2
  rw [show (Value.ref H.size) = .ref (gs G) by rw [hsz]]
  exact h p lc e R s m args below meth c cm sm C' g1 g2 H1 locs (cells + 1) (slots + e0.1.2.2) ls hR (by omega) r3 (by omega) (by omega) r6
theorem w_newa {at0 : ArrayType} {i : Nat} {x : Int32} (hi : (at0 = .byte ∧ i = 0) ∨ (at0 = .int ∧ i = 1) ∨ (at0 = .boolean ∧ i = 2)) (h0 : 0 ≤ x.toInt) (hx1 : x.toInt ≤ 100000) (hk : 1 ≤ k) (hn : x.toInt.toNat ≤ n) (hd : decode (mc Y) pc = .ok (.newarray at0, 2)) (h : Wp X Y d Q (k - 1) (n - x.toInt.toNat) (gnew G (i + 101) x.toInt.toNat (fun _ => .int 0)) (pc + 2) l (.ref (gs G) :: st)) : Wp X Y d Q k n G pc l (.int x :: st) := by
  intro p lc e R s m args below meth c cm sm C g1 g2 H locs cells slots ls r1 r2 r3 r4 r5 r6
  have C' := C
  obtain ⟨hx, hb, hr, hlk, hml, hown, hnm, hts, hK, -⟩ := C
  have hsz : H.size = gs G := r1.1
  have hneg : ¬ x < 0 := fun q => by
    have := Int32.lt_iff_toInt_lt.mp q
    have e : (0 : Int32).toInt = 0 := rfl
    omega
  have key : ∀ (ty : FieldType), newarray.typeOf at0 = ty → gTy[i]? = some ty → i < 5 → (Cond.arrayClass ty).before args s = true → (∀ cA : ClassId, va_RA s cA ty ↔ s.vm.findClass ("[" ++ ty.toString) = some cA) → defaultValue ty = .int 0 → componentBytes ty ≤ 4 → W p lc e R s m args below meth c H locs cells slots (MQ below (gQc X Q) args s cm sm (fun q => xb X ≤ q)) (F0 m pc ls (.int x :: st)) := by
    intro ty e1 e2 e3 e4 e5 e6 e7
    refine va_newaK hx hb (by rw [e1]; exact e4) rfl hd rfl hneg (N := x.toInt.toNat) rfl (by rw [e1]; have := Nat.mul_le_mul (show x.toInt.toNat ≤ 100000 by omega) e7; omega) (by omega) (by omega) rfl fun H1 cA f1 z1 o1 hAr hNm => ?_
    rw [e1] at f1 hAr hNm
    have hK3 := (hK.2.2.1 i ty e3 e2).2
    have hcA : cA = xA X i := Option.some.inj (hNm.symm.trans ((e5 _).mp hK3))
    subst hcA
    have hR : Rep X s (gnew G (i + 101) x.toInt.toNat (fun _ => .int 0)) H1 := by
      refine r1.born z1 o1 ⟨fun i' q => by omega, fun i' q _ => ?_, fun i' q => by omega, fun i' q => by omega⟩
      have : i' = i := by omega
      subst this
      rw [e6] at f1
      exact ⟨by have := r1.2.1; omega, e3, by rw [← hsz]; exact f1⟩
    show W _ _ _ _ _ _ _ _ _ _ _ _ _ _ _ (F0 m (pc + 2) ls (.ref H.size :: st))
    rw [hsz]
    exact h p lc e R s m args below meth c cm sm C' g1 g2 H1 locs (cells + 1) (slots + x.toInt.toNat) ls hR (by omega) r3 (by omega) (by omega) r6
  rcases hi with ⟨rfl, rfl⟩ | ⟨rfl, rfl⟩ | ⟨rfl, rfl⟩
  · exact key .byte rfl rfl (by decide) (hts _ q359) (fun _ => Iff.rfl) rfl (by decide)
  · exact key .int rfl rfl (by decide) (hts _ q307) (fun _ => Iff.rfl) rfl (by decide)
  · exact key .boolean rfl rfl (by decide) (hts _ q306) (fun _ => Iff.rfl) rfl (by decide)
theorem w_anew {idx i : Nat} {x : Int32} (hA : AG (my Y).cls idx i) (h0 : 0 ≤ x.toInt) (hx1 : x.toInt ≤ 100000) (hk : 1 ≤ k) (hn : x.toInt.toNat ≤ n) (hd : decode (mc Y) pc = .ok (.anewarray idx, 3)) (h : Wp X Y d Q (k - 1) (n - x.toInt.toNat) (gnew G (i + 101) x.toInt.toNat (fun _ => .null)) (pc + 3) l (.ref (gs G) :: st)) : Wp X Y d Q k n G pc l (.int x :: st) := by
  obtain ⟨C0, hi, hty, w1, w2⟩ := hA
  intro p lc e R s m args below meth c cm sm C g1 g2 H locs cells slots ls r1 r2 r3 r4 r5 r6
  have C' := C
  obtain ⟨hx, hb, hr, hlk, hml, hown, hnm, hts, hK, -⟩ := C
  have hsz : H.size = gs G := r1.1
  have hneg : ¬ x < 0 := fun q => by
    have := Int32.lt_iff_toInt_lt.mp q
    have e : (0 : Int32).toInt = 0 := rfl
    omega
  have ex : x.toNatClampNeg = x.toInt.toNat := rfl
  refine W.anew hx hb hown (hts _ w1) (va_AO.use (hK.2.2.2.2.1 C0 w2)) rfl hd rfl hneg (by rw [ex]; omega) (by omega) (by rw [ex]; omega) fun cA kA comp f1 f2 f3 f4 => ?_
  obtain ⟨kA', comp', q1, q2, q3, q4⟩ := (hK.2.2.1 i _ (by omega) hty).2
  have hcA : cA = xA X i := Option.some.inj (f1.symm.trans q4)
  subst hcA
  have e0 : (H.push { cls := xA X i, slots := Array.replicate x.toNatClampNeg .null, vm := .none }) = H.push (arrV (xA X i) x.toInt.toNat (fun _ => .null)) := by
    rw [ex]
    congr 1
    unfold arrV
    congr 1
    apply Array.ext
    · simp
    · intro j h1 h2; simp
  rw [e0]
  have hR : Rep X s (gnew G (i + 101) x.toInt.toNat (fun _ => .null)) (H.push (arrV (xA X i) x.toInt.toNat (fun _ => .null))) := by
    refine r1.born (by simp) (fun q hq => by rw [Array.getElem?_push, if_neg (Nat.ne_of_lt hq)]) ⟨fun i' q => by omega, fun i' q _ => ?_, fun i' q => by omega, fun i' q => by omega⟩
    have : i' = i := by omega
    subst this
    exact ⟨by have := r1.2.1; omega, by omega, by rw [← hsz]; simp⟩
  show W _ _ _ _ _ _ _ _ _ _ _ _ _ _ _ (F0 m (pc + 3) ls (.ref H.size :: st))
  rw [hsz]
  exact h p lc e R s m args below meth c cm sm C' g1 g2 _ locs (cells + 1) (slots + x.toNatClampNeg) ls hR (by simp; omega) r3 (by omega) (by rw [ex]; omega) r6
theorem w_aast {a i v : Nat} {j : Int32} (hS : SG i (gc G v)) (ht : gc G a = i + 101) (h0 : 0 ≤ j.toInt) (h1 : j.toInt.toNat < gl G a) (hd : decode (mc Y) pc = .ok (.aastore, 1)) (h : Wp X Y d Q k n (gput G a j.toInt.toNat (.ref v)) (pc + 1) l st) : Wp X Y d Q k n G pc l (.ref v :: .int j :: .ref a :: st) := by
  obtain ⟨C0, jj, r, hi, hty, j27, j15, hvt, hr, w1⟩ := hS
  intro p lc e R s m args below meth c cm sm C g1 g2 H locs cells slots ls r1 r2 r3 r4 r5 r6
  have C' := C
  obtain ⟨hx, hb, hre, hlk, hml, hown, hnm, hts, hK, -⟩ := C
  obtain ⟨ty, cell, hty', c1, c2, c3, c3', c4, c5⟩ := r1.arr hK (i := i) (by omega) (Or.inl ht)
  cases hty.symm.trans hty'
  obtain ⟨-, b2, -, -⟩ := r1.2.2.2.2 a
  obtain ⟨b3, b4, b5⟩ := b2 i ht (by omega)
  cases c1.symm.trans b5
  obtain ⟨kA, comp, k1, k2, k3, -⟩ := (hK.2.2.1 i _ b4 hty).2
  obtain ⟨cv, v1, v2, v3⟩ := r1.recv hK j27 hvt hr
  obtain ⟨c0, t0, f1, f2, f3⟩ := Cond.castable_spec (va_Nw.use (A := args) rfl (hK.2.2.2.1 _ w1 rfl))
  cases v3.symm.trans f1
  cases k3.symm.trans f2
  obtain ⟨kv, hkv, -⟩ := Vm.findClass_spec v3
  obtain ⟨kc, hkc, -⟩ := Vm.findClass_spec k3
  refine W.aast hx hb b5 (fun q z => by cases z) (fun z => by cases z) k1 k2 rfl hkc ⟨?_, by rw [c4]; exact h1⟩ v1 (fun q z => by rw [z] at v2; cases v2) hkv f3 rfl rfl hd fun H' e1 e2 e3 => ?_
  · intro q
    have := Int32.lt_iff_toInt_lt.mp q
    have e : (0 : Int32).toInt = 0 := rfl
    omega
  have hA := r1.arrPut (i := i) ht b4 b5 e1 e2 e3
  exact h p lc e R s m args below meth c cm sm C' g1 g2 H' _ cells slots ls hA.1 (by rw [e2]; exact r2) (fun q hq => by
    rcases List.mem_append.mp hq with z | z
    · exact r3 q z
    · rw [List.mem_singleton.mp z]; exact hA.2) r4 r5 r6
theorem w_cast {idx a : Nat} (hC : CG (my Y).cls idx (gc G a)) (hd : decode (mc Y) pc = .ok (.checkcast idx, 3)) (h : Wp X Y d Q k n G (pc + 3) l (.ref a :: st)) : Wp X Y d Q k n G pc l (.ref a :: st) := by
  obtain ⟨i, r, nm, h27, ht, hr, w1, w2⟩ := hC
  intro p lc e R s m args below meth c cm sm C g1 g2 H locs cells slots ls r1 r2 r3 r4 r5 r6
  have kk := h p lc e R s m args below meth c cm sm C g1 g2 H locs cells slots ls r1 r2 r3 r4 r5 r6
  obtain ⟨hx, hb, hre, hlk, hml, hown, hnm, hts, hK, -⟩ := C
  have hrec := r1.recv hK h27 ht hr
  rcases w2 with ⟨rfl, h15⟩ | w2
  · exact va_castS hx hb hown (hts _ w1) (hK.1 i r h15 hr).2 hrec hd kk
  · exact va_castY hx hb hown (hts _ w1) (hK.2.2.2.1 _ w2 rfl) hrec hd kk
theorem w_castN {idx : Nat} (hd : decode (mc Y) pc = .ok (.checkcast idx, 3)) (h : Wp X Y d Q k n G (pc + 3) l (.null :: st)) : Wp X Y d Q k n G pc l (.null :: st) := h.step fun hx hb _ kk => lv_castN hx hb hd kk
theorem w_inst {idx a : Nat} (hC : CG (my Y).cls idx (gc G a)) (hd : decode (mc Y) pc = .ok (.instanceof idx, 3)) (h : Wp X Y d Q k n G (pc + 3) l (.int 1 :: st)) : Wp X Y d Q k n G pc l (.ref a :: st) := by
  obtain ⟨i, r, nm, h27, ht, hr, w1, w2⟩ := hC
  intro p lc e R s m args below meth c cm sm C g1 g2 H locs cells slots ls r1 r2 r3 r4 r5 r6
  have kk := h p lc e R s m args below meth c cm sm C g1 g2 H locs cells slots ls r1 r2 r3 r4 r5 r6
  obtain ⟨hx, hb, hre, hlk, hml, hown, hnm, hts, hK, -⟩ := C
  have hrec := r1.recv hK h27 ht hr
  rcases w2 with ⟨rfl, h15⟩ | w2
  · exact va_instS hx hb hown (hts _ w1) (hK.1 i r h15 hr).2 hrec hd kk
  · exact va_instY hx hb hown (hts _ w1) (hK.2.2.2.1 _ w2 rfl) hrec hd kk
theorem w_instNo {idx a : Nat} (hC : CN (my Y).cls idx (gc G a)) (hd : decode (mc Y) pc = .ok (.instanceof idx, 3)) (h : Wp X Y d Q k n G (pc + 3) l (.int 0 :: st)) : Wp X Y d Q k n G pc l (.ref a :: st) := by
  obtain ⟨ht, w1⟩ := hC
  intro p lc e R s m args below meth c cm sm C g1 g2 H locs cells slots ls r1 r2 r3 r4 r5 r6
  have kk := h p lc e R s m args below meth c cm sm C g1 g2 H locs cells slots ls r1 r2 r3 r4 r5 r6
  obtain ⟨hx, hb, hre, hlk, hml, hown, hnm, hts, hK, -⟩ := C
  have hrec := r1.recv hK (i := 23) (by decide) (Or.inl ht) (r := (RJ32, TJ32, 6)) rfl
  exact va_instNo hx hb hown (hts _ w1) hK.2.2.2.2.2.2.1 hrec hd kk
theorem w_instN {idx : Nat} (hd : decode (mc Y) pc = .ok (.instanceof idx, 3)) (h : Wp X Y d Q k n G (pc + 3) l (.int 0 :: st)) : Wp X Y d Q k n G pc l (.null :: st) := h.step fun hx hb _ kk => lv_instN hx hb hd kk
theorem w_gets {idx i : Nat} (hg : GS (my Y).cls idx i) (hd : decode (mc Y) pc = .ok (.getstatic idx, 3)) (h : Wp X Y d Q k n G (pc + 3) l (xs X i :: st)) : Wp X Y d Q k n G pc l st := by
  obtain ⟨q, hq, ref, w1, w2⟩ := hg
  intro p lc e R s m args below meth c cm sm C g1 g2 H locs cells slots ls r1 r2 r3 r4 r5 r6
  have kk := h p lc e R s m args below meth c cm sm C g1 g2 H locs cells slots ls r1 r2 r3 r4 r5 r6
  obtain ⟨hx, hb, hre, hlk, hml, hown, hnm, hts, hK, -, -, hb0, hh0⟩ := C
  obtain ⟨cf, kf, fi, f, a, cell, h1, h2, h3, h4, h5, h6, h7, h8⟩ := hK.2.2.2.2.2.2.2.1 i q hq
  have hlt : a < xb X := Nat.not_le.mp h8
  refine W.gets hx hb hown (hts _ w1) (show s.fieldFound? ref q.2.1 q.2.2 = some (cf, kf, fi, f) from ?_) h2 h3 h4 (by rw [r1.2.2.1 a hlt]; exact h5) (fun z => by rw [z] at h6; cases h6) h7 rfl hd kk
  rcases w2 with rfl | w2
  · exact h1
  · exact u_same (hts _ w2) _ h1
theorem w_ldc {idx : Nat} {v : Int32} (w1 : Cond.constant (my Y).cls idx v ∈ lw_all) (hd : decode (mc Y) pc = .ok (.ldc idx, 2)) (h : Wp X Y d Q k n G (pc + 2) l (.int v :: st)) : Wp X Y d Q k n G pc l st := by
  intro p lc e R s m args below meth c cm sm C g1 g2 H locs cells slots ls r1 r2 r3 r4 r5 r6
  have kk := h p lc e R s m args below meth c cm sm C g1 g2 H locs cells slots ls r1 r2 r3 r4 r5 r6
  exact lv_ldc C.1 C.2.1 C.2.2.2.2.2.1 (C.2.2.2.2.2.2.2.1 _ w1) hd kk
theorem w_ldcf {idx : Nat} {v : UInt32} (w1 : Cond.constantFloat (my Y).cls idx v ∈ lw_all) (hd : decode (mc Y) pc = .ok (.ldc idx, 2)) (h : Wp X Y d Q k n G (pc + 2) l (.float v :: st)) : Wp X Y d Q k n G pc l st := by
  intro p lc e R s m args below meth c cm sm C g1 g2 H locs cells slots ls r1 r2 r3 r4 r5 r6
  have kk := h p lc e R s m args below meth c cm sm C g1 g2 H locs cells slots ls r1 r2 r3 r4 r5 r6
  exact lv_ldcf C.1 C.2.1 C.2.2.2.2.2.1 (C.2.2.2.2.2.2.2.1 _ w1) hd kk
theorem w_ldc2 {idx : Nat} {v : Int64} (w1 : Cond.constantLong (my Y).cls idx v ∈ lw_all) (hd : decode (mc Y) pc = .ok (.ldc2_w idx, 3)) (h : Wp X Y d Q k n G (pc + 3) l (.long v :: st)) : Wp X Y d Q k n G pc l st := by
  intro p lc e R s m args below meth c cm sm C g1 g2 H locs cells slots ls r1 r2 r3 r4 r5 r6
  have kk := h p lc e R s m args below meth c cm sm C g1 g2 H locs cells slots ls r1 r2 r3 r4 r5 r6
  exact lv_ldc2 C.1 C.2.1 C.2.2.2.2.2.1 (C.2.2.2.2.2.2.2.1 _ w1) hd kk
theorem gQc.end {r : Option Value} {H : Heap} {s : State} {args : Array Value} (hR : Rep X s G H) (hz : s.heap.size ≤ H.size) (hq : Q r G) : ∀ t : State, t.heap = H → s.WarmedH t.vm → gQc X Q args s (.returned r) t := by
  intro t ht hW
  exact ⟨r, G, rfl, hq, by rw [ht]; exact hR.moved hW.alike, by rw [ht]; exact hz⟩
theorem w_ret (hr : mr Y = none) (hd : decode (mc Y) pc = .ok (.return_, 1)) (h : Q none G) : Wp X Y d Q k n G pc l [] := by
  intro p lc e R s m args below meth c cm sm C g1 g2 H locs cells slots ls r1 r2 r3 r4 r5 r6
  refine W.widen (k := cm) (n := sm) (by omega) (by omega) ?_
  exact W.vret C.1 C.2.1 (by rw [C.2.2.1]; exact hr) (gQc.end r1 r2 h) r3 hd C.2.2.2.1
theorem w_iret {x : Int32} {ty : FieldType} (hr : mr Y = some ty) (hn : narrow ty (.int x) = .int x) (hd : decode (mc Y) pc = .ok (.ireturn, 1)) (h : Q (some (.int x)) G) : Wp X Y d Q k n G pc l [.int x] := by
  intro p lc e R s m args below meth c cm sm C g1 g2 H locs cells slots ls r1 r2 r3 r4 r5 r6
  refine W.widen (k := cm) (n := sm) (by omega) (by omega) ?_
  exact W.zret C.1 C.2.1 (by rw [C.2.2.1]; exact hr) hn (gQc.end r1 r2 h) r3 hd C.2.2.2.1
theorem w_aret {v : Value} (hr : (∃ nm, mr Y = some (.object nm)) ∨ ∃ t, mr Y = some (.array t)) (hv : rfOK v) (hd : decode (mc Y) pc = .ok (.areturn, 1)) (h : Q (some v) G) : Wp X Y d Q k n G pc l [v] := by
  intro p lc e R s m args below meth c cm sm C g1 g2 H locs cells slots ls r1 r2 r3 r4 r5 r6
  refine W.widen (k := cm) (n := sm) (by omega) (by omega) ?_
  have hv' : v = .null ∨ ∃ a, v = .ref a := by
    cases v with
    | null => exact Or.inl rfl
    | ref a => exact Or.inr ⟨a, rfl⟩
    | _ => exact hv.elim
  rcases hr with ⟨nm, hr⟩ | ⟨t, hr⟩
  · exact W.aret C.1 C.2.1 (by rw [C.2.2.1]; exact hr) (Or.inl ⟨nm, rfl⟩) hv' (gQc.end r1 r2 h) r3 hd C.2.2.2.1
  · exact W.aret C.1 C.2.1 (by rw [C.2.2.1]; exact hr) (Or.inr ⟨t, rfl⟩) hv' (gQc.end r1 r2 h) r3 hd C.2.2.2.1
theorem Tri.mono {args : List Value} {k' n' d' : Nat} {Q' : Option Value → gH → Prop} (h : Tri X d Y args k n G Q) (hq : ∀ r G', Q r G' → Q' r G') : Tri X d Y args k n G Q' := by
  intro lc p e hl hc hk s m as below h1 h2 h3 h4
  obtain ⟨t, o, a1, a2, a3, a4, L, a5⟩ := h lc p e hl hc hk s m as below h1 h2 h3 h4
  exact ⟨t, o, a1, a2, a3, gQc.mono hq a4, L, a5⟩
end
