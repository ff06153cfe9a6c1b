/-! RULES: Wp, instruction by instruction -/
set_option maxRecDepth 100000
theorem iI_of (n : Nat) : Int32.ofNat n = iI (n : Int) := by
  unfold iI Int32.ofNat Int32.ofInt
  rw [BitVec.ofInt_natCast]
theorem lI_ofN (n : Nat) : Int64.ofNat n = lI (n : Int) := by
  unfold lI Int64.ofNat Int64.ofInt
  rw [BitVec.ofInt_natCast]
theorem iI_b {n : Int} (h : -128 ≤ n ∧ n < 128) : (Int8.ofInt n).toInt32 = iI n := by
  apply Int32.toInt_inj.mp
  rw [Int8.toInt_toInt32, Int8.toInt_ofInt_of_le (by omega) (by omega)]
  exact (Int32.toInt_ofInt_of_le (by omega) (by omega)).symm
theorem iI_s {n : Int} (h : -32768 ≤ n ∧ n < 32768) : (Int16.ofInt n).toInt32 = iI n := by
  apply Int32.toInt_inj.mp
  rw [Int16.toInt_toInt32, Int16.toInt_ofInt_of_le (by omega) (by omega)]
  exact (Int32.toInt_ofInt_of_le (by omega) (by omega)).symm
theorem iI_toInt {z : Int} (h : -2147483648 ≤ z ∧ z < 2147483648) : (iI z).toInt = z := Int32.toInt_ofInt_of_le (by omega) (by omega)
theorem iI_self (x : Int32) : iI x.toInt = x := Int32.ofInt_toInt x
theorem lI_toInt {z : Int} (h : -9223372036854775808 ≤ z ∧ z < 9223372036854775808) : (lI z).toInt = z := Int64.toInt_ofInt_of_le (by omega) (by omega)
theorem lI_of (x : Int32) : x.toInt64 = lI x.toInt := by
  have h1 := Int32.le_toInt x
  have h2 := Int32.toInt_lt x
  apply Int64.toInt_inj.mp
  rw [Int32.toInt_toInt64, lI_toInt (by omega)]
def isC2 : Value → Bool
  | .long _ => true
  | .double _ => true
  | _ => false
theorem isC2_1 {v : Value} (h : isC2 v = false) : v.category = 1 := by cases v <;> first | rfl | cases h
def kill2 : Option Value → Option Value
  | some v => if isC2 v then none else some v
  | none => none
/-- a store into the locals -/
def lset : List (Option Value) → Nat → Value → List (Option Value)
  | [], _, _ => []
  | _ :: t, 0, v => some v :: t
  | o :: t, 1, v => kill2 o :: lset t 0 v
  | o :: t, i + 2, v => o :: lset t (i + 1) v
theorem lset_get : ∀ (l : List (Option Value)) (i j : Nat) (v w : Value), (lset l i v)[j]? = some (some w) → (j = i ∧ w = v) ∨ (j ≠ i ∧ l[j]? = some (some w) ∧ ¬ (j + 1 = i ∧ w.category = 2))
  | [], i, j, v, w, h => by simp [lset] at h
  | o :: t, 0, 0, v, w, h => by simp [lset] at h; exact Or.inl ⟨rfl, h.symm⟩
  | o :: t, 0, j + 1, v, w, h => by simp [lset] at h; exact Or.inr ⟨by omega, by simpa using h, by omega⟩
  | o :: t, 1, 0, v, w, h => by
    simp only [lset, List.getElem?_cons_zero, Option.some.injEq] at h
    cases o with
    | none => simp [kill2] at h
    | some u =>
      by_cases hc : isC2 u = true
      · simp [kill2, hc] at h
      · simp [kill2, hc] at h
        subst h
        refine Or.inr ⟨by omega, by simp, fun q => ?_⟩
        have := isC2_1 (v := u) (by simpa using hc)
        omega
  | o :: t, 1, j + 1, v, w, h => by
    simp only [lset, List.getElem?_cons_succ] at h
    rcases lset_get t 0 j v w h with ⟨a, b⟩ | ⟨a, b, c⟩
    · exact Or.inl ⟨by omega, b⟩
    · exact Or.inr ⟨by omega, by simpa using b, by omega⟩
  | o :: t, i + 2, 0, v, w, h => by
    simp only [lset, List.getElem?_cons_zero] at h
    exact Or.inr ⟨by omega, by simpa using h, by omega⟩
  | o :: t, i + 2, j + 1, v, w, h => by
    simp only [lset, List.getElem?_cons_succ] at h
    rcases lset_get t (i + 1) j v w h with ⟨a, b⟩ | ⟨a, b, c⟩
    · exact Or.inl ⟨by omega, b⟩
    · exact Or.inr ⟨by omega, by simpa using b, fun q => c ⟨by omega, q.2⟩⟩
def lvA (l : List (Option Value)) : List (Nat × Value) := (List.range l.length).filterMap fun j => (l[j]?.join).map fun v => (j, v)
theorem lvA_mem {l : List (Option Value)} {j : Nat} {v : Value} : (j, v) ∈ lvA l ↔ l[j]? = some (some v) := by
  unfold lvA
  rw [List.mem_filterMap]
  constructor
  · rintro ⟨i, hi, h⟩
    cases hq : l[i]? with
    | none => simp [hq] at h
    | some o =>
      cases o with
      | none => simp [hq] at h
      | some w => simp [hq] at h; obtain ⟨rfl, rfl⟩ := h; exact hq
  · intro h
    have := (List.getElem?_eq_some_iff.mp h).1
    exact ⟨j, List.mem_range.mpr this, by simp [h]⟩
theorem lvR.has {ls : Array Slot} {nL : Nat} {l : List (Option Value)} (h : lvR ls nL l) : lv_has ls nL (lvA l) :=
  ⟨h.1, h.2.1, fun q hq => h.2.2 q.1 q.2 (lvA_mem.mp hq)⟩
theorem lvR.store {ls : Array Slot} {nL : Nat} {l : List (Option Value)} (h : lvR ls nL l) {i : Nat} {v : Value} {ls' : Array Slot} (h' : lv_has ls' nL ((i, v) :: (lvA l).filter (fun q => !(q.1 == i) && !(q.1 + 1 == i && q.2.category == 2)))) : lvR ls' nL (lset l i v) := by
  refine ⟨h'.1, h'.2.1, fun j w hj => ?_⟩
  rcases lset_get l i j v w hj with ⟨rfl, rfl⟩ | ⟨a, b, c⟩
  · exact h'.2.2 (j, w) List.mem_cons_self
  · refine h'.2.2 (j, w) (List.mem_cons_of_mem _ (List.mem_filter.mpr ⟨lvA_mem.mpr b, ?_⟩))
    simp only [Bool.and_eq_true, Bool.not_eq_true', beq_eq_false_iff_ne, ne_eq, Bool.and_eq_false_iff]
    exact ⟨a, (Decidable.em (j + 1 = i)).elim (fun q => Or.inr (fun z => c ⟨q, z⟩)) Or.inl⟩
def cnd : ClassFile.Cond → Int32 → Int32 → Prop
  | .eq, x, y => x.toInt = y.toInt
  | .ne, x, y => x.toInt ≠ y.toInt
  | .lt, x, y => x.toInt < y.toInt
  | .ge, x, y => y.toInt ≤ x.toInt
  | .gt, x, y => y.toInt < x.toInt
  | .le, x, y => x.toInt ≤ y.toInt
def rfOK : Value → Prop
  | .ref _ => True
  | .null => True
  | _ => False
theorem rfOK.ex {v : Value} (h : rfOK v) : ∃ r : Option Nat, v = va_rf r := by
  cases v with
  | ref a => exact ⟨some a, rfl⟩
  | null => exact ⟨none, rfl⟩
  | _ => exact h.elim
theorem va_rf_inj {a b : Option Nat} : va_rf a = va_rf b ↔ a = b := by
  cases a <;> cases b <;> simp [va_rf]
def irm (x y : Int32) : Int32 := x - x / y * y
section
variable {X : gX} {Y : gM} {d : Nat} {Q : Option Value → gH → Prop} {k n : Nat} {G : gH} {pc : Nat} {l : List (Option Value)} {st : List Value}
theorem Wp.step {pc' : Nat} {st' st : List Value} (hs : ∀ {p : Program} {lc : Launch} {e : Env} {R : Room} {s : State} {m : MethodId} {args : Array Value} {below : List Frame} {meth : Method} {c : Code} {H : Heap} {locs : List Loc} {cells slots : Nat} {ls : Array Slot} {QQ : State → Prop}, p.tables.exec = Jvm.exec → c.code = mc Y → lvR ls (mL Y) l → W p lc e R s m args below meth c H locs cells slots QQ (F0 m pc' ls st') → W p lc e R s m args below meth c H locs cells slots QQ (F0 m pc ls st)) (h : Wp X Y d Q k n G pc' l st') : Wp X Y d Q k n G pc l st :=
  fun p lc e R s m args below meth c cm sm C h1 h2 H locs cells slots ls r1 r2 r3 r4 r5 r6 => hs C.1 C.2.1 r6 (h p lc e R s m args below meth c cm sm C h1 h2 H locs cells slots ls r1 r2 r3 r4 r5 r6)
theorem w_iconst {z : Int} (hd : decode (mc Y) pc = .ok (.iconst z, 1)) (h : Wp X Y d Q k n G (pc + 1) l (.int (iI z) :: st)) : Wp X Y d Q k n G pc l st := h.step fun hx hb _ kk => lv_iconst hx hb hd rfl kk
theorem w_bipush {z : Int} (hd : decode (mc Y) pc = .ok (.bipush z, 2)) (hz : -128 ≤ z ∧ z < 128) (h : Wp X Y d Q k n G (pc + 2) l (.int (iI z) :: st)) : Wp X Y d Q k n G pc l st := h.step fun hx hb _ kk => lv_bipush hx hb hd (iI_b hz) kk
theorem w_sipush {z : Int} (hd : decode (mc Y) pc = .ok (.sipush z, 3)) (hz : -32768 ≤ z ∧ z < 32768) (h : Wp X Y d Q k n G (pc + 3) l (.int (iI z) :: st)) : Wp X Y d Q k n G pc l st := h.step fun hx hb _ kk => lv_sipush hx hb hd (iI_s hz) kk
theorem w_lconst {z : Fin 2} (hd : decode (mc Y) pc = .ok (.lconst z, 1)) (h : Wp X Y d Q k n G (pc + 1) l (.long (lI (z.val : Int)) :: st)) : Wp X Y d Q k n G pc l st := h.step fun hx hb _ kk => lv_lconst hx hb hd (lI_ofN _) kk
theorem w_null (hd : decode (mc Y) pc = .ok (.aconst_null, 1)) (h : Wp X Y d Q k n G (pc + 1) l (.null :: st)) : Wp X Y d Q k n G pc l st := h.step fun hx hb _ kk => lv_null hx hb hd kk
theorem w_iload {i : Nat} {x : Int32} (hd : decode (mc Y) pc = .ok (.iload i, 2)) (hl : l[i]? = some (some (.int x))) (h : Wp X Y d Q k n G (pc + 2) l (.int x :: st)) : Wp X Y d Q k n G pc l st := h.step fun hx hb r kk => lv_iload hx hb hd (r.2.2 _ _ hl) kk
theorem w_iload_n {i : Fin 4} {x : Int32} (hd : decode (mc Y) pc = .ok (.iload_n i, 1)) (hl : l[i.val]? = some (some (.int x))) (h : Wp X Y d Q k n G (pc + 1) l (.int x :: st)) : Wp X Y d Q k n G pc l st := h.step fun hx hb r kk => lv_iload_n hx hb hd rfl (r.2.2 _ _ hl) kk
theorem w_lload {i : Nat} {x : Int64} (hd : decode (mc Y) pc = .ok (.lload i, 2)) (hl : l[i]? = some (some (.long x))) (h : Wp X Y d Q k n G (pc + 2) l (.long x :: st)) : Wp X Y d Q k n G pc l st := h.step fun hx hb r kk => lv_lload hx hb hd (r.2.2 _ _ hl) kk
theorem w_lload_n {i : Fin 4} {x : Int64} (hd : decode (mc Y) pc = .ok (.lload_n i, 1)) (hl : l[i.val]? = some (some (.long x))) (h : Wp X Y d Q k n G (pc + 1) l (.long x :: st)) : Wp X Y d Q k n G pc l st := h.step fun hx hb r kk => lv_lload_n hx hb hd rfl (r.2.2 _ _ hl) kk
theorem w_fload {i : Nat} {x : UInt32} (hd : decode (mc Y) pc = .ok (.fload i, 2)) (hl : l[i]? = some (some (.float x))) (h : Wp X Y d Q k n G (pc + 2) l (.float x :: st)) : Wp X Y d Q k n G pc l st := h.step fun hx hb r kk => lv_fload hx hb hd (r.2.2 _ _ hl) kk
theorem w_fload_n {i : Fin 4} {x : UInt32} (hd : decode (mc Y) pc = .ok (.fload_n i, 1)) (hl : l[i.val]? = some (some (.float x))) (h : Wp X Y d Q k n G (pc + 1) l (.float x :: st)) : Wp X Y d Q k n G pc l st := h.step fun hx hb r kk => lv_fload_n hx hb hd rfl (r.2.2 _ _ hl) kk
theorem w_aload {i : Nat} {v : Value} (hd : decode (mc Y) pc = .ok (.aload i, 2)) (hl : l[i]? = some (some v)) (hv : rfOK v) (h : Wp X Y d Q k n G (pc + 2) l (v :: st)) : Wp X Y d Q k n G pc l st := by
  cases v with
  | ref a => exact h.step fun hx hb r kk => lv_aload hx hb hd (r.2.2 _ _ hl) kk
  | null => exact h.step fun hx hb r kk => lv_aloadN hx hb hd (r.2.2 _ _ hl) kk
  | _ => exact hv.elim
theorem w_aload_n {i : Fin 4} {v : Value} (hd : decode (mc Y) pc = .ok (.aload_n i, 1)) (hl : l[i.val]? = some (some v)) (hv : rfOK v) (h : Wp X Y d Q k n G (pc + 1) l (v :: st)) : Wp X Y d Q k n G pc l st := by
  cases v with
  | ref a => exact h.step fun hx hb r kk => lv_aload_n hx hb hd rfl (r.2.2 _ _ hl) kk
  | null => exact h.step fun hx hb r kk => lv_aload_nN hx hb hd rfl (r.2.2 _ _ hl) kk
  | _ => exact hv.elim
theorem Wp.stepL {pc' i : Nat} {v : Value} {st' st : List Value} (hs : ∀ {p : Program} {lc : Launch} {e : Env} {R : Room} {s : State} {m : MethodId} {args : Array Value} {below : List Frame} {meth : Method} {c : Code} {H : Heap} {locs : List Loc} {cells slots : Nat} {ls : Array Slot} {QQ : State → Prop}, p.tables.exec = Jvm.exec → c.code = mc Y → lv_has ls (mL Y) (lvA l) → (∀ ls' : Array Slot, lv_has ls' (mL Y) ((i, v) :: (lvA l).filter (fun q => !(q.1 == i) && !(q.1 + 1 == i && q.2.category == 2))) → W p lc e R s m args below meth c H locs cells slots QQ (F0 m pc' ls' st')) → W p lc e R s m args below meth c H locs cells slots QQ (F0 m pc ls st)) (h : Wp X Y d Q k n G pc' (lset l i v) st') : Wp X Y d Q k n G pc l st :=
  fun p lc e R s m args below meth c cm sm C h1 h2 H locs cells slots ls r1 r2 r3 r4 r5 r6 => hs C.1 C.2.1 r6.has fun ls' hl' => h p lc e R s m args below meth c cm sm C h1 h2 H locs cells slots ls' r1 r2 r3 r4 r5 (r6.store hl')
theorem w_istore {i : Nat} {x : Int32} (hd : decode (mc Y) pc = .ok (.istore i, 2)) (hi : i < mL Y) (h : Wp X Y d Q k n G (pc + 2) (lset l i (.int x)) st) : Wp X Y d Q k n G pc l (.int x :: st) := h.stepL fun hx hb r kk => lv_istore hx hb hd r hi rfl kk
theorem w_istore_n {i : Fin 4} {x : Int32} (hd : decode (mc Y) pc = .ok (.istore_n i, 1)) (hi : i.val < mL Y) (h : Wp X Y d Q k n G (pc + 1) (lset l i.val (.int x)) st) : Wp X Y d Q k n G pc l (.int x :: st) := h.stepL fun hx hb r kk => lv_istore_n hx hb hd rfl r hi rfl kk
theorem w_fstore {i : Nat} {x : UInt32} (hd : decode (mc Y) pc = .ok (.fstore i, 2)) (hi : i < mL Y) (h : Wp X Y d Q k n G (pc + 2) (lset l i (.float x)) st) : Wp X Y d Q k n G pc l (.float x :: st) := h.stepL fun hx hb r kk => lv_fstore hx hb hd r hi rfl kk
theorem w_astore {i : Nat} {v : Value} (hd : decode (mc Y) pc = .ok (.astore i, 2)) (hi : i < mL Y) (hv : rfOK v) (h : Wp X Y d Q k n G (pc + 2) (lset l i v) st) : Wp X Y d Q k n G pc l (v :: st) := by
  cases v with
  | ref a => exact h.stepL fun hx hb r kk => lv_astore hx hb hd r hi rfl kk
  | null => exact h.stepL fun hx hb r kk => lv_astoreN hx hb hd r hi rfl kk
  | _ => exact hv.elim
theorem w_astore_n {i : Fin 4} {v : Value} (hd : decode (mc Y) pc = .ok (.astore_n i, 1)) (hi : i.val < mL Y) (hv : rfOK v) (h : Wp X Y d Q k n G (pc + 1) (lset l i.val v) st) : Wp X Y d Q k n G pc l (v :: st) := by
  cases v with
  | ref a => exact h.stepL fun hx hb r kk => lv_astore_n hx hb hd rfl r hi rfl kk
  | null => exact h.stepL fun hx hb r kk => lv_astore_nN hx hb hd rfl r hi rfl kk
  | _ => exact hv.elim
theorem w_iinc {i : Nat} {z : Int} {x : Int32} (hd : decode (mc Y) pc = .ok (.iinc i z, 3)) (hi : i < mL Y) (hl : l[i]? = some (some (.int x))) (h : Wp X Y d Q k n G (pc + 3) (lset l i (.int (x + iI z))) st) : Wp X Y d Q k n G pc l st := by
  obtain ⟨j, hj⟩ := List.getElem?_of_mem (lvA_mem.mpr hl)
  exact h.stepL fun hx hb r kk => lv_iinc hx hb hd r hj rfl hi rfl kk
theorem w_iadd {x y : Int32} (hd : decode (mc Y) pc = .ok (.iadd, 1)) (h : Wp X Y d Q k n G (pc + 1) l (.int (x + y) :: st)) : Wp X Y d Q k n G pc l (.int y :: .int x :: st) := h.step fun hx hb _ kk => lv_iadd hx hb hd kk
theorem w_isub {x y : Int32} (hd : decode (mc Y) pc = .ok (.isub, 1)) (h : Wp X Y d Q k n G (pc + 1) l (.int (x - y) :: st)) : Wp X Y d Q k n G pc l (.int y :: .int x :: st) := h.step fun hx hb _ kk => lv_isub hx hb hd kk
theorem w_imul {x y : Int32} (hd : decode (mc Y) pc = .ok (.imul, 1)) (h : Wp X Y d Q k n G (pc + 1) l (.int (x * y) :: st)) : Wp X Y d Q k n G pc l (.int y :: .int x :: st) := h.step fun hx hb _ kk => lv_imul hx hb hd kk
theorem w_idiv {x y : Int32} (hd : decode (mc Y) pc = .ok (.idiv, 1)) (hne : y.toInt ≠ 0) (h : Wp X Y d Q k n G (pc + 1) l (.int (x / y) :: st)) : Wp X Y d Q k n G pc l (.int y :: .int x :: st) := h.step fun hx hb _ kk => lv_idiv hx hb hd (fun q => hne (by rw [q]; rfl)) kk
theorem w_irem {x y : Int32} (hd : decode (mc Y) pc = .ok (.irem, 1)) (hne : y.toInt ≠ 0) (h : Wp X Y d Q k n G (pc + 1) l (.int (irm x y) :: st)) : Wp X Y d Q k n G pc l (.int y :: .int x :: st) := h.step fun hx hb _ kk => lv_irem hx hb hd (fun q => hne (by rw [q]; rfl)) kk
theorem w_ineg {x : Int32} (hd : decode (mc Y) pc = .ok (.ineg, 1)) (h : Wp X Y d Q k n G (pc + 1) l (.int (-x) :: st)) : Wp X Y d Q k n G pc l (.int x :: st) := h.step fun hx hb _ kk => lv_ineg hx hb hd kk
theorem w_iand {x y : Int32} (hd : decode (mc Y) pc = .ok (.iand, 1)) (h : Wp X Y d Q k n G (pc + 1) l (.int (x &&& y) :: st)) : Wp X Y d Q k n G pc l (.int y :: .int x :: st) := h.step fun hx hb _ kk => lv_iand hx hb hd kk
theorem w_ior {x y : Int32} (hd : decode (mc Y) pc = .ok (.ior, 1)) (h : Wp X Y d Q k n G (pc + 1) l (.int (x ||| y) :: st)) : Wp X Y d Q k n G pc l (.int y :: .int x :: st) := h.step fun hx hb _ kk => lv_ior hx hb hd kk
theorem w_ixor {x y : Int32} (hd : decode (mc Y) pc = .ok (.ixor, 1)) (h : Wp X Y d Q k n G (pc + 1) l (.int (x ^^^ y) :: st)) : Wp X Y d Q k n G pc l (.int y :: .int x :: st) := h.step fun hx hb _ kk => lv_ixor hx hb hd kk
theorem w_ishl {x y : Int32} (hd : decode (mc Y) pc = .ok (.ishl, 1)) (h : Wp X Y d Q k n G (pc + 1) l (.int (x <<< (y &&& 31)) :: st)) : Wp X Y d Q k n G pc l (.int y :: .int x :: st) := h.step fun hx hb _ kk => lv_ishl hx hb hd kk
theorem w_ishr {x y : Int32} (hd : decode (mc Y) pc = .ok (.ishr, 1)) (h : Wp X Y d Q k n G (pc + 1) l (.int (x >>> (y &&& 31)) :: st)) : Wp X Y d Q k n G pc l (.int y :: .int x :: st) := h.step fun hx hb _ kk => lv_ishr hx hb hd kk
theorem w_iushr {x y : Int32} (hd : decode (mc Y) pc = .ok (.iushr, 1)) (h : Wp X Y d Q k n G (pc + 1) l (.int ((x.toUInt32 >>> (y.toUInt32 &&& Int32.toUInt32 31)).toInt32) :: st)) : Wp X Y d Q k n G pc l (.int y :: .int x :: st) := h.step fun hx hb _ kk => lv_iushr hx hb hd rfl kk
theorem w_i2l {x : Int32} (hd : decode (mc Y) pc = .ok (.i2l, 1)) (h : Wp X Y d Q k n G (pc + 1) l (.long (lI x.toInt) :: st)) : Wp X Y d Q k n G pc l (.int x :: st) := h.step fun hx hb _ kk => lv_i2l hx hb hd (lI_of x) kk
theorem w_i2b {x : Int32} (hd : decode (mc Y) pc = .ok (.i2b, 1)) (h : Wp X Y d Q k n G (pc + 1) l (.int x.toInt8.toInt32 :: st)) : Wp X Y d Q k n G pc l (.int x :: st) := h.step fun hx hb _ kk => lv_i2b hx hb hd rfl kk
theorem w_i2c {x : Int32} (hd : decode (mc Y) pc = .ok (.i2c, 1)) (h : Wp X Y d Q k n G (pc + 1) l (.int (x.toUInt32 % 65536).toInt32 :: st)) : Wp X Y d Q k n G pc l (.int x :: st) := h.step fun hx hb _ kk => lv_i2c hx hb hd rfl kk
theorem w_i2f {x : Int32} (hd : decode (mc Y) pc = .ok (.i2f, 1)) (h : Wp X Y d Q k n G (pc + 1) l (.float (FP.i2f x) :: st)) : Wp X Y d Q k n G pc l (.int x :: st) := h.step fun hx hb _ kk => lv_i2f hx hb hd kk
theorem w_f2i {x : UInt32} (hd : decode (mc Y) pc = .ok (.f2i, 1)) (h : Wp X Y d Q k n G (pc + 1) l (.int (FP.f2i x) :: st)) : Wp X Y d Q k n G pc l (.float x :: st) := h.step fun hx hb _ kk => lv_f2i hx hb hd kk
theorem w_fmul {x y : UInt32} (hd : decode (mc Y) pc = .ok (.fmul, 1)) (hne : vf_n32 (FP.fmul x y)) (h : Wp X Y d Q k n G (pc + 1) l (.float (FP.fmul x y) :: st)) : Wp X Y d Q k n G pc l (.float y :: .float x :: st) := h.step fun hx hb _ kk => lv_fmul hx hb hd hne kk
theorem w_fcmp {x y : UInt32} {op : CmpOp} (hd : decode (mc Y) pc = .ok (.fcmp op, 1)) (h : Wp X Y d Q k n G (pc + 1) l (.int (Op.cmpValue (FP.fcmp x y) op) :: st)) : Wp X Y d Q k n G pc l (.float y :: .float x :: st) := h.step fun hx hb _ kk => lv_fcmp hx hb hd kk
theorem w_fconst0 (hd : decode (mc Y) pc = .ok (.fconst 0, 1)) (h : Wp X Y d Q k n G (pc + 1) l (.float FP.fconst0 :: st)) : Wp X Y d Q k n G pc l st := h.step fun hx hb _ kk => lv_fconst0 hx hb hd kk
theorem w_lcmp {x y : Int64} (hd : decode (mc Y) pc = .ok (.lcmp, 1)) (h : Wp X Y d Q k n G (pc + 1) l (.int (lg_cmp x y) :: st)) : Wp X Y d Q k n G pc l (.long y :: .long x :: st) := h.step fun hx hb _ kk => W.lcmp hx hb hd kk
theorem w_dup {v : Value} (hd : decode (mc Y) pc = .ok (.dup, 1)) (hv : isC2 v = false) (h : Wp X Y d Q k n G (pc + 1) l (v :: v :: st)) : Wp X Y d Q k n G pc l (v :: st) := h.step fun hx hb _ kk => lv_dup hx hb hd (isC2_1 hv) kk
theorem w_dup_x1 {v w : Value} (hd : decode (mc Y) pc = .ok (.dup_x1, 1)) (hv : isC2 v = false) (hw : isC2 w = false) (h : Wp X Y d Q k n G (pc + 1) l (v :: w :: v :: st)) : Wp X Y d Q k n G pc l (v :: w :: st) := h.step fun hx hb _ kk => lv_dup_x1 hx hb hd (isC2_1 hv) (isC2_1 hw) kk
theorem w_dup_x2 {v w u : Value} (hd : decode (mc Y) pc = .ok (.dup_x2, 1)) (hv : isC2 v = false) (hw : isC2 w = false) (hu : isC2 u = false) (h : Wp X Y d Q k n G (pc + 1) l (v :: w :: u :: v :: st)) : Wp X Y d Q k n G pc l (v :: w :: u :: st) := h.step fun hx hb _ kk => lv_dup_x2 hx hb hd (isC2_1 hv) (isC2_1 hw) (isC2_1 hu) kk
theorem w_dup2 {v w : Value} (hd : decode (mc Y) pc = .ok (.dup2, 1)) (hv : isC2 v = false) (hw : isC2 w = false) (h : Wp X Y d Q k n G (pc + 1) l (v :: w :: v :: w :: st)) : Wp X Y d Q k n G pc l (v :: w :: st) := h.step fun hx hb _ kk => lv_dup2_11 hx hb hd (isC2_1 hv) (isC2_1 hw) kk
theorem w_pop {v : Value} (hd : decode (mc Y) pc = .ok (.pop, 1)) (hv : isC2 v = false) (h : Wp X Y d Q k n G (pc + 1) l st) : Wp X Y d Q k n G pc l (v :: st) := h.step fun hx hb _ kk => lv_pop hx hb hd (isC2_1 hv) kk
theorem w_goto {off : Int} {tgt : Nat} (hd : decode (mc Y) pc = .ok (.goto off, 3)) (ht : (pc : Int) + off = (tgt : Int)) (h : Wp X Y d Q k n G tgt l st) : Wp X Y d Q k n G pc l st := h.step fun hx hb _ kk => lv_goto hx hb hd ht kk
theorem Wp.fork {A B : Prop} {p1 p2 : Nat} {s1 s2 st : List Value} (hs : ∀ {p : Program} {lc : Launch} {e : Env} {R : Room} {s : State} {m : MethodId} {args : Array Value} {below : List Frame} {meth : Method} {c : Code} {H : Heap} {locs : List Loc} {cells slots : Nat} {ls : Array Slot} {QQ : State → Prop}, p.tables.exec = Jvm.exec → c.code = mc Y → (A → W p lc e R s m args below meth c H locs cells slots QQ (F0 m p1 ls s1)) → (B → W p lc e R s m args below meth c H locs cells slots QQ (F0 m p2 ls s2)) → W p lc e R s m args below meth c H locs cells slots QQ (F0 m pc ls st)) (ha : A → Wp X Y d Q k n G p1 l s1) (hb : B → Wp X Y d Q k n G p2 l s2) : Wp X Y d Q k n G pc l st :=
  fun p lc e R s m args below meth c cm sm C h1 h2 H locs cells slots ls r1 r2 r3 r4 r5 r6 => hs C.1 C.2.1 (fun q => ha q p lc e R s m args below meth c cm sm C h1 h2 H locs cells slots ls r1 r2 r3 r4 r5 r6) (fun q => hb q p lc e R s m args below meth c cm sm C h1 h2 H locs cells slots ls r1 r2 r3 r4 r5 r6)
theorem w_icmp {cd : ClassFile.Cond} {off : Int} {tgt : Nat} {x y : Int32} (hd : decode (mc Y) pc = .ok (.if_icmp cd off, 3)) (ht : (pc : Int) + off = (tgt : Int)) (kt : cnd cd x y → Wp X Y d Q k n G tgt l st) (kf : ¬ cnd cd x y → Wp X Y d Q k n G (pc + 3) l st) : Wp X Y d Q k n G pc l (.int y :: .int x :: st) := by
  refine Wp.fork ?_ kt kf
  intro p lc e R s m args below meth c H locs cells slots ls QQ hx hb ha hf
  cases cd with
  | eq => exact lv_icmp_eq hx hb hd ht (fun q => ha (by rw [q]; rfl)) (fun q => hf (fun z => q (Int32.toInt_inj.mp z)))
  | ne => exact lv_icmp_ne hx hb hd ht (fun q => ha (fun z => q (Int32.toInt_inj.mp z))) (fun q => hf (fun z => z (by rw [q])))
  | lt => exact lv_icmp_lt hx hb hd ht (fun q => ha (Int32.lt_iff_toInt_lt.mp q)) (fun q => hf (fun z => q (Int32.lt_iff_toInt_lt.mpr z)))
  | ge => exact lv_icmp_ge hx hb hd ht (fun q => ha (Int32.le_iff_toInt_le.mp q)) (fun q => hf (fun z => q (Int32.le_iff_toInt_le.mpr z)))
  | gt => exact lv_icmp_gt hx hb hd ht (fun q => ha (Int32.lt_iff_toInt_lt.mp q)) (fun q => hf (fun z => q (Int32.lt_iff_toInt_lt.mpr z)))
  | le => exact lv_icmp_le hx hb hd ht (fun q => ha (Int32.le_iff_toInt_le.mp q)) (fun q => hf (fun z => q (Int32.le_iff_toInt_le.mpr z)))
theorem w_if {cd : ClassFile.Cond} {off : Int} {tgt : Nat} {x : Int32} (hd : decode (mc Y) pc = .ok (.ifCond cd off, 3)) (ht : (pc : Int) + off = (tgt : Int)) (kt : cnd cd x 0 → Wp X Y d Q k n G tgt l st) (kf : ¬ cnd cd x 0 → Wp X Y d Q k n G (pc + 3) l st) : Wp X Y d Q k n G pc l (.int x :: st) := by
  refine Wp.fork ?_ kt kf
  intro p lc e R s m args below meth c H locs cells slots ls QQ hx hb ha hf
  cases cd with
  | eq => exact lv_if_eq hx hb hd ht (fun q => ha (by rw [q]; rfl)) (fun q => hf (fun z => q (Int32.toInt_inj.mp z)))
  | ne => exact lv_if_ne hx hb hd ht (fun q => ha (fun z => q (Int32.toInt_inj.mp z))) (fun q => hf (fun z => z (by rw [q])))
  | lt => exact lv_if_lt hx hb hd ht (fun q => ha (Int32.lt_iff_toInt_lt.mp q)) (fun q => hf (fun z => q (Int32.lt_iff_toInt_lt.mpr z)))
  | ge => exact lv_if_ge hx hb hd ht (fun q => ha (Int32.le_iff_toInt_le.mp q)) (fun q => hf (fun z => q (Int32.le_iff_toInt_le.mpr z)))
  | gt => exact lv_if_gt hx hb hd ht (fun q => ha (Int32.lt_iff_toInt_lt.mp q)) (fun q => hf (fun z => q (Int32.lt_iff_toInt_lt.mpr z)))
  | le => exact lv_if_le hx hb hd ht (fun q => ha (Int32.le_iff_toInt_le.mp q)) (fun q => hf (fun z => q (Int32.le_iff_toInt_le.mpr z)))
theorem w_acmp {cd : ACond} {off : Int} {tgt : Nat} {v w : Value} (hd : decode (mc Y) pc = .ok (.if_acmp cd off, 3)) (ht : (pc : Int) + off = (tgt : Int)) (hv : rfOK v) (hw : rfOK w) (kt : (if cd = .eq then v = w else v ≠ w) → Wp X Y d Q k n G tgt l st) (kf : ¬ (if cd = .eq then v = w else v ≠ w) → Wp X Y d Q k n G (pc + 3) l st) : Wp X Y d Q k n G pc l (w :: v :: st) := by
  obtain ⟨rv, rfl⟩ := hv.ex
  obtain ⟨rw_, rfl⟩ := hw.ex
  refine Wp.fork ?_ kt kf
  intro p lc e R s m args below meth c H locs cells slots ls QQ hx hb ha hf
  cases cd with
  | eq => exact lv_acmp_eq hx hb hd ht (fun q => ha (by simp [q])) (fun q => hf (by simpa [va_rf_inj] using q))
  | ne => exact lv_acmp_ne hx hb hd ht (fun q => ha (by simpa [va_rf_inj] using q)) (fun q => hf (by simpa [va_rf_inj] using q))
theorem w_ifnull {off : Int} {tgt : Nat} {v : Value} (hd : decode (mc Y) pc = .ok (.ifnull off, 3)) (ht : (pc : Int) + off = (tgt : Int)) (hv : rfOK v) (kt : v = .null → Wp X Y d Q k n G tgt l st) (kf : v ≠ .null → Wp X Y d Q k n G (pc + 3) l st) : Wp X Y d Q k n G pc l (v :: st) := by
  cases v with
  | ref a => exact (kf (fun h => by cases h)).step fun hx hb _ kk => lv_ifnull hx hb hd kk
  | null => exact (kt rfl).step fun hx hb _ kk => lv_ifnullN hx hb hd ht kk
  | _ => exact hv.elim
theorem w_ifnonnull {off : Int} {tgt : Nat} {v : Value} (hd : decode (mc Y) pc = .ok (.ifnonnull off, 3)) (ht : (pc : Int) + off = (tgt : Int)) (hv : rfOK v) (kt : v ≠ .null → Wp X Y d Q k n G tgt l st) (kf : v = .null → Wp X Y d Q k n G (pc + 3) l st) : Wp X Y d Q k n G pc l (v :: st) := by
  cases v with
  | ref a => exact (kt (fun h => by cases h)).step fun hx hb _ kk => lv_ifnonnull hx hb hd ht kk
  | null => exact (kf rfl).step fun hx hb _ kk => lv_ifnonnullN hx hb hd kk
  | _ => exact hv.elim
theorem w_tableOut {dflt lo hi : Int} {offs : Array Int} {len tgt : Nat} {x : Int32} (hd : decode (mc Y) pc = .ok (.tableswitch dflt lo hi offs, len)) (hq : x.toInt < lo ∨ hi < x.toInt) (ht : (pc : Int) + dflt = (tgt : Int)) (h : Wp X Y d Q k n G tgt l st) : Wp X Y d Q k n G pc l (.int x :: st) := h.step fun hx hb _ kk => lv_tableOut hx hb hd hq ht kk
theorem w_tableIn {dflt lo hi : Int} {offs : Array Int} {len tgt : Nat} {x : Int32} {off : Int} (hd : decode (mc Y) pc = .ok (.tableswitch dflt lo hi offs, len)) (q1 : ¬ x.toInt < lo) (q2 : ¬ hi < x.toInt) (ho : offs[(x.toInt - lo).toNat]? = some off) (ht : (pc : Int) + off = (tgt : Int)) (h : Wp X Y d Q k n G tgt l st) : Wp X Y d Q k n G pc l (.int x :: st) := h.step fun hx hb _ kk => lv_tableIn hx hb hd q1 q2 ho ht kk
theorem w_lookup {dflt : Int} {ps : Array (Int × Int)} {len : Nat} {x : Int32} {off : Int} {tgt : Nat} (hd : decode (mc Y) pc = .ok (.lookupswitch dflt ps, len)) (hp : (ps.toList.zip (ps.toList.drop 1)).all (fun (a, next) => a.1 < next.1) = true) (ho : Op.lookupswitch.offset ps.toList dflt x.toInt = off) (ht : (pc : Int) + off = (tgt : Int)) (h : Wp X Y d Q k n G tgt l st) : Wp X Y d Q k n G pc l (.int x :: st) := h.step fun hx hb _ kk => lv_lookup hx hb hd hp ho ht kk
end
