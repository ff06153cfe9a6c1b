/-! RULES 4: calls; a method's contract out of its walk -/
set_option maxRecDepth 100000
theorem KInv.same {X : gX} {s U : State} (hv : s.vm = U.vm) (h : KInv X s) : KInv X U := by
  have hA : s.vm.Alike U.vm := hv ▸ Vm.Alike.refl s.vm
  obtain ⟨h1, ⟨h2, h2'⟩, h3, h4, h5, h6, h7, h8, h9, ⟨mi, h10', h10⟩, aS, h11, h12⟩ := h
  refine ⟨fun c q hc hq => u_Kn_moved hA (h1 c q hc hq), ⟨by rw [hA.findClass]; exact h2, fun k hk => ?_⟩, fun i ty hi hty => ⟨arrOfT_moved hA (h3 i ty hi hty).1, (h3 i ty hi hty).2.moved hA⟩, fun w hw hk => ?_, fun C hC => (h5 C hC).moved hA, fun C x y a b c d e f => (h6 C x y a b c d e f).moved f hA, h7.moved hA, fun i q hq => (h8 i q hq).moved hA, fun w hw => ?_, ⟨mi, h10', h10.moved hA⟩, aS, h11, h12.same hv.symm⟩
  · obtain ⟨cf, kf, fi, f, q1, q2, q3⟩ := h2' k hk
    obtain ⟨k', hi', he⟩ := State.fieldFound?_setVm hA q1
    exact ⟨cf, k', fi, f, hi', q2, q3⟩
  · have ha := h4 w hw hk
    have ht : w.onTables = true := by cases w <;> simp only [gNwK] at hk <;> first | rfl | cases hk
    exact va_Nw.same ht hv ha
  · have ha := h9 w hw
    simp only [gXw, List.mem_cons, List.not_mem_nil, or_false] at hw
    rcases hw with rfl | rfl <;> exact va_Nw.same rfl hv ha
theorem gPc_blind {X : gX} {G : gH} {args : List Value} : FrameBlind (va_Pc args (fun U => Rep X U G U.heap ∧ KInv X U)) := by
  intro a U g mk h
  obtain ⟨h1, h2, h3⟩ := h
  exact ⟨h1, h2.moved (Vm.Alike.refl U.vm), KInv.same (s := U) rfl h3⟩
theorem call_fin {X : gX} {Y : gM} {d : Nat} {Q : Option Value → gH → Prop} {k n : Nat} {G : gH} {pc len : Nat} {l : List (Option Value)} {P : Option Value → gH → Prop} {k' n' : Nat} {rest st0 : List Value}
    {p : Program} {lc : Launch} {e : Env} {R : Room} {s : State} {m : MethodId} {args : Array Value} {below : List Frame} {meth : Method} {c : Code} {cm sm : Nat} (C : gCtx X Y d p R s m args meth c) (g1 : cm ≤ R.cells) (g2 : sm ≤ R.slots)
    {H : Heap} {locs : List Loc} {cells slots : Nat} {ls : Array Slot} (r1 : Rep X s G H) (r2 : s.heap.size ≤ H.size) (r3 : ∀ q ∈ locs, xb X ≤ q.base) (r4 : cells + k ≤ cm) (r5 : slots + n ≤ sm) (r6 : lvR ls (mL Y) l) (hk : k' ≤ k) (hn : n' ≤ n) {aa : Array Value}
    (hr : ∀ T : State, T.heap = H → Stand p lc e R s m args below meth c T locs cells slots → ∃ (v : Option Value) (st₀ t T' : State) (L : List Loc), st₀.heap = H ∧ Stand p lc e R s m args below meth c T' (locs ++ L) (cells + k') (slots + n') ∧ (∀ q ∈ L, xb X ≤ q.base) ∧ T'.heap = t.heap ∧ T'.vm = t.vm ∧ gQc X P aa st₀ (.returned v) t ∧ Goes p e below T (F0 m pc ls st0) T' (F0 m (pc + len) ls (v.toList ++ rest)))
    (kk : ∀ r G', P r G' → Wp X Y d Q (k - k') (n - n') G' (pc + len) l (r.toList ++ rest)) : W p lc e R s m args below meth c H locs cells slots (MQ below (gQc X Q) args s cm sm (fun q => xb X ≤ q)) (F0 m pc ls st0) := by
  intro T hT XS
  obtain ⟨v, st₀, t, T', L, h0, X', hL, e1, e2, ⟨r, G', hv, hP, hRep, hsz⟩, st⟩ := hr T hT XS
  cases hv
  rw [h0, ← e1] at hsz
  have hA : t.vm.Alike s.vm := by rw [← e2]; exact X'.warmed.alike.symm
  have hR' : Rep X s G' T'.heap := by rw [e1]; exact hRep.moved hA
  obtain ⟨t2, a1, b1⟩ := kk v G' hP p lc e R s m args below meth c cm sm C g1 g2 T'.heap (locs ++ L) (cells + k') (slots + n') ls hR' (Nat.le_trans r2 hsz) (fun q hq => by
    rcases List.mem_append.mp hq with z | z
    · exact r3 q z
    · exact hL q z) (by omega) (by omega) r6 T' rfl X'
  exact ⟨t2, st t2 a1, b1⟩
theorem rest_room {rest : List Value} (h : rest.length ≤ 4) : (rest.map fun v => v.category).sum ≤ 8 := by
  have key : ∀ (l : List Value), (l.map fun v => v.category).sum ≤ 2 * l.length := by
    intro l
    induction l with
    | nil => simp
    | cons a t ih =>
      have : a.category ≤ 2 := by cases a <;> simp [Value.category]
      simp only [List.map_cons, List.sum_cons, List.length_cons]
      omega
  have := key rest
  omega
/-- a call from a method of the class own: what stands there, how long, the receiver's tag (0: any), how many arguments (the receiver among them), the method that runs -/
def CS (own : String) (ins : Instr) (len tag na : Nat) (Y' : gM) : Prop :=
  ∀ {X : gX} {Y : gM} {d : Nat} {Q : Option Value → gH → Prop} {k n : Nat} {G : gH} {pc : Nat} {l : List (Option Value)} {dd k' n' : Nat} {args rest : List Value} {P : Option Value → gH → Prop}, (my Y).cls = own → decode (mc Y) pc = .ok (ins, len) → args.length = na → (tag = 0 ∨ ∃ b As, args = .ref b :: As ∧ gc G b = tag) → rest.length ≤ 4 → dd < d → k' ≤ k → n' ≤ n → Tri X dd Y' args k' n' G P → (∀ r G', P r G' → Wp X Y d Q (k - k') (n - n') G' (pc + len) l (r.toList ++ rest)) → Wp X Y d Q k n G pc l (args.reverse ++ rest)
/-- a method whose own words stand in the tables -/
def gMK (Y : gM) : Prop := Cond.code (my Y) (mc Y) (mL Y) (mr Y) ∈ lw_all ∧ Cond.initialized (my Y).cls ∈ lw_all ∧ mL Y ≤ 70
theorem rm_ok {dd d : Nat} {Y' : gM} {R : Room} (hd : dd < d) (hL : mL Y' ≤ 70) (h1 : d ≤ R.frames) (h2 : 100 * d ≤ R.locals) : ({ frames := dd, cells := 0, slots := 0, locals := 100 * dd } : Room).frames + 1 ≤ R.frames ∧ 8 + (mL Y' + 11) + ({ frames := dd, cells := 0, slots := 0, locals := 100 * dd } : Room).locals ≤ R.locals := by
  constructor
  · show dd + 1 ≤ R.frames; omega
  · show 8 + (mL Y' + 11) + 100 * dd ≤ R.locals; omega
abbrev nMH (s : String) : Prop := s ≠ "java/lang/invoke/MethodHandle" ∧ s ≠ "java/lang/invoke/VarHandle"
abbrev npar (desc : String) (n : Nat) : Prop := (parseMethodDescriptor desc).map (fun d => d.parameters.length) = some n
theorem CS.S {own : String} {idx na : Nat} {Y' : gM} (hM : gMK Y') (w1 : Cond.methodLink own idx (my Y') ∈ lw_all) (w2 : Cond.static (my Y') ∈ lw_all) (h1 : nMH (my Y').cls) (h2 : npar (my Y').desc na) : CS own (.invokestatic idx) 3 0 na Y' := by
  intro X Y d Q k n G pc l dd k' n' args rest P hown0 hd hna htag hrl hdd hk hn hT kk p lc e R s m args0 below meth c cm sm C g1 g2 H locs cells slots ls r1 r2 r3 r4 r5 r6
  have C' := C
  obtain ⟨hx, hb, hre, hlk, hml, hown, hnm, hts, hK, hfr, hlo, -⟩ := C
  rw [hown0] at hown
  refine call_fin (aa := args.toArray) C' g1 g2 r1 r2 r3 r4 r5 r6 hk hn ?_ kk
  exact va_runS (nL := mL Y) (Ts := lw_all) ⟨hx, hb, hml, hown, hts⟩ (hT lc) (va_cwS na hts (lw_S w1 w2 hM.2.1 hM.1) rfl rfl rfl ⟨h1.1, h1.2, h2⟩ (rm_ok hdd hM.2.2 hfr hlo)) ⟨gPc_blind, fun U hU hW => ⟨rfl, by rw [hU]; exact r1.moved hW.alike, hK.moved hW⟩⟩ rfl hna r6.1 rfl (lv_room (rest_room hrl)) hd ⟨by omega, by omega⟩
theorem CS.SN {own host : String} {idx na : Nat} {Y' : gM} (hM : gMK Y') (w1 : Cond.methodLinkNest own idx (my Y') host ∈ lw_tbl) (w2 : Cond.static (my Y') ∈ lw_all) (h1 : nMH (my Y').cls) (h2 : npar (my Y').desc na) : CS own (.invokestatic idx) 3 0 na Y' := by
  intro X Y d Q k n G pc l dd k' n' args rest P hown0 hd hna htag hrl hdd hk hn hT kk p lc e R s m args0 below meth c cm sm C g1 g2 H locs cells slots ls r1 r2 r3 r4 r5 r6
  have C' := C
  obtain ⟨hx, hb, hre, hlk, hml, hown, hnm, hts, hK, hfr, hlo, -⟩ := C
  rw [hown0] at hown
  refine call_fin (aa := args.toArray) C' g1 g2 r1 r2 r3 r4 r5 r6 hk hn ?_ kk
  exact va_runSN (nL := mL Y) (Ts := lw_all) ⟨hx, hb, hml, hown, hts⟩ (hT lc) ⟨va_cnB na hts (lw_meth hM.1) rfl rfl rfl (hK.2.2.2.1 _ w1 rfl) (hts _ hM.2.1) ⟨h1.1, h1.2, h2⟩ (rm_ok hdd hM.2.2 hfr hlo), hts _ w2, trivial⟩ ⟨gPc_blind, fun U hU hW => ⟨rfl, by rw [hU]; exact r1.moved hW.alike, hK.moved hW⟩⟩ rfl hna r6.1 rfl (lv_room (rest_room hrl)) hd ⟨by omega, by omega⟩
theorem CS.I {own : String} {idx na tag : Nat} {Y' : gM} (hM : gMK Y') (w1 : Cond.methodLink own idx (my Y') ∈ lw_all) (w2 : Cond.instanceMethod (my Y') ∈ lw_all) (hi : (my Y').name = "<init>") (hr : mr Y' = none) (ht : tag ≠ 0) (h1 : nMH (my Y').cls) (h2 : npar (my Y').desc na) : CS own (.invokespecial idx) 3 tag (na + 1) Y' := by
  intro X Y d Q k n G pc l dd k' n' args rest P hown0 hd hna htag hrl hdd hk hn hT kk p lc e R s m args0 below meth c cm sm C g1 g2 H locs cells slots ls r1 r2 r3 r4 r5 r6
  have C' := C
  obtain ⟨hx, hb, hre, hlk, hml, hown, hnm, hts, hK, hfr, hlo, -⟩ := C
  rw [hown0] at hown
  obtain ⟨b, As, rfl, -⟩ := htag.resolve_left ht
  have hT' := hT lc
  have hM1 := hM.1
  rw [hr] at hT' hM1
  refine call_fin (aa := (Value.ref b :: As).toArray) C' g1 g2 r1 r2 r3 r4 r5 r6 hk hn ?_ kk
  exact va_runI (nL := mL Y) (Ts := lw_all) ⟨hx, hb, hml, hown, hts⟩ hT' (cwI na hts (lw_meth hM1) rfl rfl rfl (hts _ hM.2.1) (hts _ w1) (hts _ w2) hi ⟨h1.1, h1.2, h2⟩ (rm_ok hdd hM.2.2 hfr hlo)) ⟨gPc_blind, fun U hU hW => ⟨rfl, by rw [hU]; exact r1.moved hW.alike, hK.moved hW⟩⟩ rfl (by simpa using hna) r6.1 (by simp) (lv_room (rest_room hrl)) hd ⟨by omega, by omega⟩
theorem CS.IN {own host : String} {idx na tag : Nat} {Y' : gM} (hM : gMK Y') (w1 : Cond.methodLinkNest own idx (my Y') host ∈ lw_tbl) (w2 : Cond.instanceMethod (my Y') ∈ lw_all) (hi : (my Y').name = "<init>") (hr : mr Y' = none) (ht : tag ≠ 0) (h1 : nMH (my Y').cls) (h2 : npar (my Y').desc na) : CS own (.invokespecial idx) 3 tag (na + 1) Y' := by
  intro X Y d Q k n G pc l dd k' n' args rest P hown0 hd hna htag hrl hdd hk hn hT kk p lc e R s m args0 below meth c cm sm C g1 g2 H locs cells slots ls r1 r2 r3 r4 r5 r6
  have C' := C
  obtain ⟨hx, hb, hre, hlk, hml, hown, hnm, hts, hK, hfr, hlo, -⟩ := C
  rw [hown0] at hown
  obtain ⟨b, As, rfl, -⟩ := htag.resolve_left ht
  have hT' := hT lc
  have hM1 := hM.1
  rw [hr] at hT' hM1
  refine call_fin (aa := (Value.ref b :: As).toArray) C' g1 g2 r1 r2 r3 r4 r5 r6 hk hn ?_ kk
  exact va_runIN (nL := mL Y) (Ts := lw_all) ⟨hx, hb, hml, hown, hts⟩ hT' ⟨va_cnB na hts (lw_meth hM1) rfl rfl rfl (hK.2.2.2.1 _ w1 rfl) (hts _ hM.2.1) ⟨h1.1, h1.2, h2⟩ (rm_ok hdd hM.2.2 hfr hlo), hi, hts _ w2⟩ ⟨gPc_blind, fun U hU hW => ⟨rfl, by rw [hU]; exact r1.moved hW.alike, hK.moved hW⟩⟩ rfl (by simpa using hna) r6.1 (by simp) (lv_room (rest_room hrl)) hd ⟨by omega, by omega⟩
abbrev tagOf (tag i : Nat) (r : vw_C) : Prop := i < 27 ∧ (tag = i + 1 ∨ tag = i + 201) ∧ gCl[i]? = some r
theorem CS.V {own : String} {idx na tag i : Nat} {r : vw_C} {Y' : gM} (hM : gMK Y') (hq : tagOf tag i r) (hC : (my Y').cls = r.1) (w1 : Cond.methodLink own idx (my Y') ∈ lw_all) (w2 : Cond.instanceMethod (my Y') ∈ lw_all) (w3 : Cond.selects r.1 (my Y') (my Y') ∈ lw_all) (h1 : nMH (my Y').cls) (h2 : npar (my Y').desc na) : CS own (.invokevirtual idx) 3 tag (na + 1) Y' := by
  intro X Y d Q k n G pc l dd k' n' args rest P hown0 hd hna htag hrl hdd hk hn hT kk p lc e R s m args0 below meth c cm sm C g1 g2 H locs cells slots ls r1 r2 r3 r4 r5 r6
  have C' := C
  obtain ⟨hx, hb, hre, hlk, hml, hown, hnm, hts, hK, hfr, hlo, -⟩ := C
  rw [hown0] at hown
  have ht : tag ≠ 0 := by rcases hq.2.1 with z | z <;> omega
  obtain ⟨b, As, rfl, hbt⟩ := htag.resolve_left ht
  refine call_fin (aa := (Value.ref b :: As).toArray) C' g1 g2 r1 r2 r3 r4 r5 r6 hk hn ?_ kk
  have w4 := hM.2.1
  rw [hC] at w4
  exact va_runV (nL := mL Y) (Ts := lw_all) (C := r.1) ⟨hx, hb, hml, hown, hts⟩ (hT lc) (cwV na hts (lw_V w1 w2 w3 w4 hM.1) rfl rfl rfl ⟨hC, h1.1, h1.2, h2⟩ (rm_ok hdd hM.2.2 hfr hlo)) ⟨gPc_blind, r1.recv hK hq.1 (by rw [hbt]; exact hq.2.1) hq.2.2, fun U hU hW => ⟨rfl, by rw [hU]; exact r1.moved hW.alike, hK.moved hW⟩⟩ rfl (by simpa using hna) r6.1 (by simp) (lv_room (rest_room hrl)) hd ⟨by omega, by omega⟩
theorem CS.VN {own host : String} {idx na tag i : Nat} {r : vw_C} {Y' : gM} (hM : gMK Y') (hq : tagOf tag i r) (w1 : Cond.methodLinkNest own idx (my Y') host ∈ lw_tbl) (w2 : Cond.instanceMethod (my Y') ∈ lw_all) (w3 : Cond.selects r.1 (my Y') (my Y') ∈ lw_all) (h1 : nMH (my Y').cls) (h2 : npar (my Y').desc na) : CS own (.invokevirtual idx) 3 tag (na + 1) Y' := by
  intro X Y d Q k n G pc l dd k' n' args rest P hown0 hd hna htag hrl hdd hk hn hT kk p lc e R s m args0 below meth c cm sm C g1 g2 H locs cells slots ls r1 r2 r3 r4 r5 r6
  have C' := C
  obtain ⟨hx, hb, hre, hlk, hml, hown, hnm, hts, hK, hfr, hlo, -⟩ := C
  rw [hown0] at hown
  have ht : tag ≠ 0 := by rcases hq.2.1 with z | z <;> omega
  obtain ⟨b, As, rfl, hbt⟩ := htag.resolve_left ht
  refine call_fin (aa := (Value.ref b :: As).toArray) C' g1 g2 r1 r2 r3 r4 r5 r6 hk hn ?_ kk
  exact va_runVN (nL := mL Y) (Ts := lw_all) (C := r.1) ⟨hx, hb, hml, hown, hts⟩ (hT lc) ⟨va_cnB na hts (lw_meth hM.1) rfl rfl rfl (hK.2.2.2.1 _ w1 rfl) (hts _ hM.2.1) ⟨h1.1, h1.2, h2⟩ (rm_ok hdd hM.2.2 hfr hlo), hts _ w2, hts _ w3⟩ ⟨gPc_blind, r1.recv hK hq.1 (by rw [hbt]; exact hq.2.1) hq.2.2, fun U hU hW => ⟨rfl, by rw [hU]; exact r1.moved hW.alike, hK.moved hW⟩⟩ rfl (by simpa using hna) r6.1 (by simp) (lv_room (rest_room hrl)) hd ⟨by omega, by omega⟩
theorem lw_U {own : String} {idx : Nat} {C owner : String} {x y : MethodName} {b : ByteArray} {L : Nat} {r : Option FieldType} (h1 : Cond.methodLink own idx x ∈ lw_all) (h2 : Cond.sameMethod x.cls owner x.name x.desc ∈ lw_all) (h3 : Cond.selects C x y ∈ lw_all) (h4 : Cond.instanceMethod y ∈ lw_all) (h5 : Cond.initialized y.cls ∈ lw_all) (h6 : Cond.code y b L r ∈ lw_all) : GoodIn lw_all (va_wsU own idx C owner x y (ws_ y b L r)) := by
  refine lw_app ?_ (lw_meth h6)
  intro w hw
  simp only [List.mem_cons, List.not_mem_nil, or_false] at hw
  rcases hw with rfl | rfl | rfl | rfl | rfl <;> assumption
theorem lw_O {own : String} {idx : Nat} {C owner : String} {x y : MethodName} {b : ByteArray} {L : Nat} {r : Option FieldType} (h1 : Cond.methodLink own idx x ∈ lw_all) (h2 : Cond.sameMethod x.cls owner x.name x.desc ∈ lw_all) (h2' : Cond.instanceMethod ⟨owner, x.name, x.desc⟩ ∈ lw_all) (h3 : Cond.selects C x y ∈ lw_all) (h4 : Cond.instanceMethod y ∈ lw_all) (h5 : Cond.initialized y.cls ∈ lw_all) (h6 : Cond.code y b L r ∈ lw_all) : GoodIn lw_all (va_wsO own idx C owner x y (ws_ y b L r)) := by
  refine lw_app ?_ (lw_meth h6)
  intro w hw
  simp only [List.mem_cons, List.not_mem_nil, or_false] at hw
  rcases hw with rfl | rfl | rfl | rfl | rfl | rfl <;> assumption
theorem CS.U {own owner : String} {idx na tag i : Nat} {r : vw_C} {x : MethodName} {Y' : gM} (hM : gMK Y') (hq : tagOf tag i r) (hy : my Y' = ⟨owner, x.name, x.desc⟩) (w1 : Cond.methodLink own idx x ∈ lw_all) (w1' : Cond.sameMethod x.cls owner x.name x.desc ∈ lw_all) (w2 : Cond.instanceMethod (my Y') ∈ lw_all) (w3 : Cond.selects r.1 x (my Y') ∈ lw_all) (h1 : nMH owner) (h2 : npar x.desc na) : CS own (.invokevirtual idx) 3 tag (na + 1) Y' := by
  intro X Y d Q k n G pc l dd k' n' args rest P hown0 hd hna htag hrl hdd hk hn hT kk p lc e R s m args0 below meth c cm sm C g1 g2 H locs cells slots ls r1 r2 r3 r4 r5 r6
  have C' := C
  obtain ⟨hx, hb, hre, hlk, hml, hown, hnm, hts, hK, hfr, hlo, -⟩ := C
  rw [hown0] at hown
  have ht : tag ≠ 0 := by rcases hq.2.1 with z | z <;> omega
  obtain ⟨b, As, rfl, hbt⟩ := htag.resolve_left ht
  refine call_fin (aa := (Value.ref b :: As).toArray) C' g1 g2 r1 r2 r3 r4 r5 r6 hk hn ?_ kk
  exact va_runU (nL := mL Y) (Ts := lw_all) (C := r.1) (x := x) (owner := owner) ⟨hx, hb, hml, hown, hts⟩ (hT lc) (va_cwU na hts (lw_U w1 w1' w3 w2 hM.2.1 hM.1) rfl rfl rfl hy ⟨h1.1, h1.2, h2⟩ (rm_ok hdd hM.2.2 hfr hlo)) ⟨gPc_blind, r1.recv hK hq.1 (by rw [hbt]; exact hq.2.1) hq.2.2, fun U hU hW => ⟨rfl, by rw [hU]; exact r1.moved hW.alike, hK.moved hW⟩⟩ rfl (by simpa using hna) r6.1 (by simp) (lv_room (rest_room hrl)) hd ⟨by omega, by omega⟩
theorem CS.O {own owner : String} {idx na tag i : Nat} {r : vw_C} {x : MethodName} {Y' : gM} {b0 : ByteArray} {m0 : Nat} {r0 : Option FieldType} (hM : gMK Y') (hq : tagOf tag i r) (w1 : Cond.methodLink own idx x ∈ lw_all) (w1' : Cond.sameMethod x.cls owner x.name x.desc ∈ lw_all) (w1'' : Cond.instanceMethod ⟨owner, x.name, x.desc⟩ ∈ lw_all) (w0 : Cond.code ⟨owner, x.name, x.desc⟩ b0 m0 r0 ∈ lw_all) (w2 : Cond.instanceMethod (my Y') ∈ lw_all) (w3 : Cond.selects r.1 x (my Y') ∈ lw_all) (h1 : nMH owner) (h2 : npar x.desc na) : CS own (.invokevirtual idx) 3 tag (na + 1) Y' := by
  intro X Y d Q k n G pc l dd k' n' args rest P hown0 hd hna htag hrl hdd hk hn hT kk p lc e R s m args0 below meth c cm sm C g1 g2 H locs cells slots ls r1 r2 r3 r4 r5 r6
  have C' := C
  obtain ⟨hx, hb, hre, hlk, hml, hown, hnm, hts, hK, hfr, hlo, -⟩ := C
  rw [hown0] at hown
  have ht : tag ≠ 0 := by rcases hq.2.1 with z | z <;> omega
  obtain ⟨b, As, rfl, hbt⟩ := htag.resolve_left ht
  refine call_fin (aa := (Value.ref b :: As).toArray) C' g1 g2 r1 r2 r3 r4 r5 r6 hk hn ?_ kk
  exact va_runU (nL := mL Y) (Ts := lw_all) (C := r.1) (x := x) (owner := owner) ⟨hx, hb, hml, hown, hts⟩ (hT lc) (va_cwO na hts (lw_O w1 w1' w1'' w3 w2 hM.2.1 hM.1) rfl rfl rfl w0 ⟨h1.1, h1.2, h2⟩ (rm_ok hdd hM.2.2 hfr hlo)) ⟨gPc_blind, r1.recv hK hq.1 (by rw [hbt]; exact hq.2.1) hq.2.2, fun U hU hW => ⟨rfl, by rw [hU]; exact r1.moved hW.alike, hK.moved hW⟩⟩ rfl (by simpa using hna) r6.1 (by simp) (lv_room (rest_room hrl)) hd ⟨by omega, by omega⟩
theorem lw_SU {own : String} {idx : Nat} {y : MethodName} {b : ByteArray} {L : Nat} {r : Option FieldType} (h1 : Cond.methodLink own idx y ∈ lw_all) (h2 : Cond.sameMethod y.cls y.cls y.name y.desc ∈ lw_all) (h3 : Cond.superclass own y.cls ∈ lw_all) (h4 : Cond.instanceMethod y ∈ lw_all) (h5 : Cond.initialized y.cls ∈ lw_all) (h6 : Cond.code y b L r ∈ lw_all) : GoodIn lw_all (va_wsSU own idx y (ws_ y b L r)) := by
  refine lw_app ?_ (lw_meth h6)
  intro w hw
  simp only [List.mem_cons, List.not_mem_nil, or_false] at hw
  rcases hw with rfl | rfl | rfl | rfl | rfl <;> assumption
theorem CS.SU {own : String} {idx na tag i : Nat} {r : vw_C} {Y' : gM} (hM : gMK Y') (hq : tagOf tag i r) (h15 : i ≠ 15) (w1 : Cond.methodLink own idx (my Y') ∈ lw_all) (w1' : Cond.sameMethod (my Y').cls (my Y').cls (my Y').name (my Y').desc ∈ lw_all) (w1'' : Cond.superclass own (my Y').cls ∈ lw_all) (w2 : Cond.instanceMethod (my Y') ∈ lw_all) (h1 : (my Y').name ≠ "<init>") (h2 : npar (my Y').desc na) : CS own (.invokespecial idx) 3 tag (na + 1) Y' := by
  intro X Y d Q k n G pc l dd k' n' args rest P hown0 hd hna htag hrl hdd hk hn hT kk p lc e R s m args0 below meth c cm sm C g1 g2 H locs cells slots ls r1 r2 r3 r4 r5 r6
  have C' := C
  obtain ⟨hx, hb, hre, hlk, hml, hown, hnm, hts, hK, hfr, hlo, -⟩ := C
  rw [hown0] at hown
  have ht : tag ≠ 0 := by rcases hq.2.1 with z | z <;> omega
  obtain ⟨b, As, rfl, hbt⟩ := htag.resolve_left ht
  refine call_fin (aa := (Value.ref b :: As).toArray) C' g1 g2 r1 r2 r3 r4 r5 r6 hk hn ?_ kk
  exact va_runSU (nL := mL Y) (Ts := lw_all) (hK.1 i r h15 hq.2.2).2 ⟨hx, hb, hml, hown, hts⟩ (hT lc) (va_cwSU na hts (lw_SU w1 w1' w1'' w2 hM.2.1 hM.1) rfl rfl rfl ⟨h1, h2⟩ (rm_ok hdd hM.2.2 hfr hlo)) ⟨gPc_blind, r1.recv hK hq.1 (by rw [hbt]; exact hq.2.1) hq.2.2, fun U hU hW => ⟨rfl, by rw [hU]; exact r1.moved hW.alike, hK.moved hW⟩⟩ rfl (by simpa using hna) r6.1 (by simp) (lv_room (rest_room hrl)) hd ⟨by omega, by omega⟩
theorem lw_F {own : String} {idx : Nat} {C : String} {x y : MethodName} {b : ByteArray} {L : Nat} {r : Option FieldType} (h1 : Cond.methodLink own idx x ∈ lw_all) (h3 : Cond.selects C x y ∈ lw_all) (h4 : Cond.instanceMethod y ∈ lw_all) (h5 : Cond.initialized y.cls ∈ lw_all) (h6 : Cond.code y b L r ∈ lw_all) : GoodIn lw_all (va_wsF own idx C x y (ws_ y b L r)) := by
  refine lw_app ?_ (lw_meth h6)
  intro w hw
  simp only [List.mem_cons, List.not_mem_nil, or_false] at hw
  rcases hw with rfl | rfl | rfl | rfl <;> assumption
theorem CS.F {own : String} {idx cnt na tag i : Nat} {r : vw_C} {x : MethodName} {Y' : gM} (hM : gMK Y') (hq : tagOf tag i r) (h15 : i ≠ 15) (w1 : Cond.methodLink own idx x ∈ lw_all) (w2 : Cond.instanceMethod (my Y') ∈ lw_all) (w3 : Cond.selects r.1 x (my Y') ∈ lw_all) (f1 : Cond.declares x ∈ lw_tbl) (f2 : Cond.interfaceMethod x.cls x.cls x.name x.desc ∈ lw_tbl) (f3 : Cond.publicMethod (my Y') ∈ lw_tbl) (f4 : Cond.unhidden r.1 x.name x.desc ∈ lw_tbl) (f5 : Cond.castable r.1 x.cls ∈ lw_tbl) (h1 : nMH x.cls) (h2 : npar x.desc na) : CS own (.invokeinterface idx cnt) 5 tag (na + 1) Y' := by
  intro X Y d Q k n G pc l dd k' n' args rest P hown0 hd hna htag hrl hdd hk hn hT kk p lc e R s m args0 below meth c cm sm C g1 g2 H locs cells slots ls r1 r2 r3 r4 r5 r6
  have C' := C
  obtain ⟨hx, hb, hre, hlk, hml, hown, hnm, hts, hK, hfr, hlo, -⟩ := C
  rw [hown0] at hown
  have ht : tag ≠ 0 := by rcases hq.2.1 with z | z <;> omega
  obtain ⟨b, As, rfl, hbt⟩ := htag.resolve_left ht
  refine call_fin (aa := (Value.ref b :: As).toArray) C' g1 g2 r1 r2 r3 r4 r5 r6 hk hn ?_ kk
  exact va_runF (nL := mL Y) (Ts := lw_all) (C := r.1) (x := x) (hK.1 i r h15 hq.2.2).2 ⟨hx, hb, hml, hown, hts⟩ (hT lc) (va_cwF na hts (lw_F w1 w3 w2 hM.2.1 hM.1) rfl rfl rfl (hK.2.2.2.2.2.1 _ _ _ f1 f2 f3 f4 f5 h1) ⟨h1.1, h1.2, h2⟩ (rm_ok hdd hM.2.2 hfr hlo)) ⟨gPc_blind, r1.recv hK hq.1 (by rw [hbt]; exact hq.2.1) hq.2.2, fun U hU hW => ⟨rfl, by rw [hU]; exact r1.moved hW.alike, hK.moved hW⟩⟩ rfl (by simpa using hna) r6.1 (by simp) (lv_room (rest_room hrl)) hd ⟨by omega, by omega⟩
theorem CS.A {own owner : String} {idx na tag i : Nat} {r : vw_C} {x : MethodName} {Y' : gM} (hM : gMK Y') (hq : tagOf tag i r) (w1 : Cond.methodLink own idx x ∈ lw_all) (w1' : Cond.sameMethod x.cls owner x.name x.desc ∈ lw_all) (w0 : Cond.declares ⟨owner, x.name, x.desc⟩ ∈ lw_tbl) (w2 : Cond.instanceMethod (my Y') ∈ lw_all) (w3 : Cond.selects r.1 x (my Y') ∈ lw_all) (h1 : nMH owner) (h2 : npar x.desc na) : CS own (.invokevirtual idx) 3 tag (na + 1) Y' := by
  intro X Y d Q k n G pc l dd k' n' args rest P hown0 hd hna htag hrl hdd hk hn hT kk p lc e R s m args0 below meth c cm sm C g1 g2 H locs cells slots ls r1 r2 r3 r4 r5 r6
  have C' := C
  obtain ⟨hx, hb, hre, hlk, hml, hown, hnm, hts, hK, hfr, hlo, -⟩ := C
  rw [hown0] at hown
  have ht : tag ≠ 0 := by rcases hq.2.1 with z | z <;> omega
  obtain ⟨b, As, rfl, hbt⟩ := htag.resolve_left ht
  refine call_fin (aa := (Value.ref b :: As).toArray) C' g1 g2 r1 r2 r3 r4 r5 r6 hk hn ?_ kk
  exact va_runU (nL := mL Y) (Ts := lw_all) (C := r.1) (x := x) (owner := owner) ⟨hx, hb, hml, hown, hts⟩ (hT lc) (va_cwA na hts (lw_U w1 w1' w3 w2 hM.2.1 hM.1) rfl rfl rfl (hK.2.2.2.1 _ w0 rfl) ⟨h1.1, h1.2, h2⟩ (rm_ok hdd hM.2.2 hfr hlo)) ⟨gPc_blind, r1.recv hK hq.1 (by rw [hbt]; exact hq.2.1) hq.2.2, fun U hU hW => ⟨rfl, by rw [hU]; exact r1.moved hW.alike, hK.moved hW⟩⟩ rfl (by simpa using hna) r6.1 (by simp) (lv_room (rest_room hrl)) hd ⟨by omega, by omega⟩
theorem CS.P {own : String} {idx na tag i : Nat} {r : vw_C} {Y' : gM} (hM : gMK Y') (hq : tagOf tag i r) (w1 : Cond.methodLink own idx (my Y') ∈ lw_all) (w1' : Cond.sameMethod (my Y').cls (my Y').cls (my Y').name (my Y').desc ∈ lw_all) (w2 : Cond.instanceMethod (my Y') ∈ lw_all) (w3 : Cond.selects r.1 (my Y') (my Y') ∈ gXw) (h1 : nMH (my Y').cls) (h2 : npar (my Y').desc na) : CS own (.invokevirtual idx) 3 tag (na + 1) Y' := by
  intro X Y d Q k n G pc l dd k' n' args rest P hown0 hd hna htag hrl hdd hk hn hT kk p lc e R s m args0 below meth c cm sm C g1 g2 H locs cells slots ls r1 r2 r3 r4 r5 r6
  have C' := C
  obtain ⟨hx, hb, hre, hlk, hml, hown, hnm, hts, hK, hfr, hlo, -⟩ := C
  rw [hown0] at hown
  have ht : tag ≠ 0 := by rcases hq.2.1 with z | z <;> omega
  obtain ⟨b, As, rfl, hbt⟩ := htag.resolve_left ht
  have hR := rm_ok hdd hM.2.2 hfr hlo
  have hG : GoodIn lw_all (ws_ (my Y') (mc Y') (mL Y') (mr Y')) := lw_meth hM.1
  have hc : Cond.code (my Y') (mc Y') (mL Y') (mr Y') ∈ ws_ (my Y') (mc Y') (mL Y') (mr Y') := List.mem_cons_self
  refine call_fin (aa := (Value.ref b :: As).toArray) C' g1 g2 r1 r2 r3 r4 r5 r6 hk hn ?_ kk
  refine va_runU (n := na) (index := idx) (bytes := mc Y') (maxL := mL Y') (ret := mr Y') (nL := mL Y) (Ts := lw_all) (C := r.1) (x := my Y') (owner := (my Y').cls) ⟨hx, hb, hml, hown, hts⟩ (hT lc) ⟨⟨rfl, rfl, hR.1, hR.2, pay_in hts hG, hc⟩, hts _ hM.1, hts _ hM.2.1, h1, fun sig h => ?_, hts _ w1, hts _ w1', va_Decl.of (hts _ w2) (hts _ hM.1), va_Nw.use rfl (hK.2.2.2.2.2.2.2.2.1 _ w3), hts _ w2⟩ ⟨gPc_blind, r1.recv hK hq.1 (by rw [hbt]; exact hq.2.1) hq.2.2, fun U hU hW => ⟨rfl, by rw [hU]; exact r1.moved hW.alike, hK.moved hW⟩⟩ rfl (by simpa using hna) r6.1 (by simp) (lv_room (rest_room hrl)) hd ⟨by omega, by omega⟩
  have h3 : (parseMethodDescriptor (my Y').desc).map (fun d => d.parameters.length) = some na := h2
  rw [h] at h3
  exact (Option.some.inj h3).symm
