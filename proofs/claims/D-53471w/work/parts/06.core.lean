/-! CORE: ghost heaps, what ties them to the machine's heap, the judgement Wp (the kit's W with the machine's context quantified away) and the contract Tri -/
set_option maxRecDepth 100000
def iI (z : Int) : Int32 := Int32.ofInt z
def lI (z : Int) : Int64 := Int64.ofInt z
/-- size, class tag (0: not known), length, contents -/
abbrev gH : Type := Nat × (Nat → Nat) × (Nat → Nat) × (Nat → Nat → Value)
def gs (G : gH) : Nat := G.1
def gc (G : gH) : Nat → Nat := G.2.1
def gl (G : gH) : Nat → Nat := G.2.2.1
def gm (G : gH) : Nat → Nat → Value := G.2.2.2
def gput (G : gH) (a k : Nat) (v : Value) : gH := (G.1, G.2.1, G.2.2.1, fun b j => if b = a ∧ j = k then v else G.2.2.2 b j)
def gnew (G : gH) (t n : Nat) (f : Nat → Value) : gH := (G.1 + 1, (fun b => if b = G.1 then t else G.2.1 b), (fun b => if b = G.1 then n else G.2.2.1 b), fun b j => if b = G.1 then f j else G.2.2.2 b j)
theorem gs_put {G : gH} {a k : Nat} {v : Value} : gs (gput G a k v) = gs G := rfl
theorem gc_put {G : gH} {a k : Nat} {v : Value} : gc (gput G a k v) = gc G := rfl
theorem gl_put {G : gH} {a k : Nat} {v : Value} : gl (gput G a k v) = gl G := rfl
theorem gm_put {G : gH} {a k b j : Nat} {v : Value} : gm (gput G a k v) b j = if b = a ∧ j = k then v else gm G b j := rfl
theorem gs_new {G : gH} {t n : Nat} {f : Nat → Value} : gs (gnew G t n f) = gs G + 1 := rfl
theorem gc_new {G : gH} {t n b : Nat} {f : Nat → Value} : gc (gnew G t n f) b = if b = gs G then t else gc G b := rfl
theorem gl_new {G : gH} {t n b : Nat} {f : Nat → Value} : gl (gnew G t n f) b = if b = gs G then n else gl G b := rfl
theorem gm_new {G : gH} {t n b j : Nat} {f : Nat → Value} : gm (gnew G t n f) b j = if b = gs G then f j else gm G b j := rfl
/-- what is fixed for a run: class numbers and slots, array classes, where the law's own heap begins, the heap before it, the statics' values -/
abbrev gX : Type := va_G × (Nat → ClassId) × Nat × Heap × (Nat → Value)
def xD (X : gX) : va_G := X.1
def xA (X : gX) : Nat → ClassId := X.2.1
def xb (X : gX) : Nat := X.2.2.1
def xH (X : gX) : Heap := X.2.2.2.1
def xs (X : gX) : Nat → Value := X.2.2.2.2
/-- element types of arrays -/
def gTy : List FieldType := [.byte, .int, .boolean, .object "java/lang/Object", .object "java/util/HashMap$Node", .object "java/lang/Integer"]
/-- tags: 1.. own objects, 101.. own arrays, 201.. objects of before, 301.. arrays of before -/
def gAt (X : gX) (s : State) (H : Heap) (a t n : Nat) (V : Nat → Value) : Prop :=
  (∀ i, t = i + 1 → i < 100 → xb X ≤ a ∧ i ≠ 15 ∧ ∃ r : vw_C, gCl[i]? = some r ∧ t_OB a ((xD X).1 i) r.2.2 ((xD X).2 i) H V) ∧
  (∀ i, t = i + 101 → i < 100 → xb X ≤ a ∧ i < 5 ∧ H[a]? = some (arrV (xA X i) n V)) ∧
  (∀ i, t = i + 201 → i < 100 → a < xb X ∧ ∃ r : vw_C, gCl[i]? = some r ∧ ∃ cell : Cell, H[a]? = some cell ∧ cell.cls = (xD X).1 i ∧ cell.vm ≠ .unknown ∧ cell.vm.isStatics = false ∧ ∀ k, k < r.2.2 → cell.slots[(xD X).2 i k]? = some (V k)) ∧
  (∀ i, t = i + 301 → i < 100 → a < xb X ∧ ∃ ty, gTy[i]? = some ty ∧ ∃ cell : Cell, H[a]? = some cell ∧ s.isArrayOf cell ty ∧ cell.vm ≠ .unknown ∧ cell.vm.isStatics = false ∧ cell.slots.size = n ∧ ∀ j, j < n → cell.slots[j]? = some (V j))
def Rep (X : gX) (s : State) (G : gH) (H : Heap) : Prop :=
  H.size = gs G ∧ xb X ≤ H.size ∧ (∀ q, q < xb X → H[q]? = (xH X)[q]?) ∧ (∀ a, gc G a ≠ 0 → a < gs G) ∧ ∀ a, gAt X s H a (gc G a) (gl G a) (gm G a)
/-- static fields that are read: class, name, descriptor -/
def gSt : List (String × String × String) := [("java/util/ArrayList", "DEFAULTCAPACITY_EMPTY_ELEMENTDATA", "[Ljava/lang/Object;"), ("java/util/HashSet", "PRESENT", "Ljava/lang/Object;"), ("java/lang/String", "COMPACT_STRINGS", "Z"), ("java/lang/Integer$IntegerCache", "high", "I"), ("java/lang/Integer$IntegerCache", "cache", "[Ljava/lang/Integer;"), ("jdk/internal/util/Preconditions", "SIOOBE_FORMATTER", "Ljava/util/function/BiFunction;")]
/-- private methods of an abstract superclass, as a StringBuilder selects them -/
def gXw : List Cond := [.selects "java/lang/StringBuilder" yJ7_ensureCapacityInternal yJ7_ensureCapacityInternal, .selects "java/lang/StringBuilder" yJ7_newCapacity yJ7_newCapacity]
def gNwK : Cond → Bool
  | .fieldLinkNest .. => true
  | .methodLinkNest .. => true
  | .castable .. => true
  | .declares .. => true
  | _ => false
/-- what is known of the machine's tables all through a run -/
def KInv (X : gX) (s : State) : Prop :=
  (∀ (c : Nat) (q : vw_C), c ≠ 15 → gCl[c]? = some q → u_Kn s q.1 q.2.1 q.2.2 ((xD X).1 c) ((xD X).2 c)) ∧
  (s.vm.findClass RJ9 = some ((xD X).1 15) ∧ ∀ k, k < 2 → ∃ (cf : ClassId) (kf : Class) (fi : Nat) (f : Field), s.fieldFound? (TJ9 k).1 (TJ9 k).2.1 (TJ9 k).2.2.1 = some (cf, kf, fi, f) ∧ f.isStatic = false ∧ f.slot = (xD X).2 15 k) ∧
  (∀ (i : Nat) (ty : FieldType), i < 5 → gTy[i]? = some ty → ArrOfT s (xA X i) ty ∧ va_RA s (xA X i) ty) ∧
  (∀ w ∈ lw_tbl, gNwK w = true → va_Nw w s) ∧
  (∀ C, Cond.arrayOver (.object C) ∈ lw_tbl → va_AO C s) ∧
  (∀ C x y, Cond.declares x ∈ lw_tbl → Cond.interfaceMethod x.cls x.cls x.name x.desc ∈ lw_tbl → Cond.publicMethod y ∈ lw_tbl → Cond.unhidden C x.name x.desc ∈ lw_tbl → Cond.castable C x.cls ∈ lw_tbl → x.cls ≠ "java/lang/invoke/MethodHandle" ∧ x.cls ≠ "java/lang/invoke/VarHandle" → va_Fw C x y s) ∧
  va_Nc "java/util/LinkedHashMap$Entry" "java/util/HashMap$TreeNode" s ∧
  (∀ (i : Nat) (q : String × String × String), gSt[i]? = some q → va_Z q.1 q.2.1 q.2.2 (xs X i) (fun a => xb X ≤ a) s (xH X)) ∧
  (∀ w ∈ gXw, va_Nw w s) ∧ (∃ mi, xs X 7 = .ref mi ∧ va_Mi "[Ljava/lang/Object;" mi s) ∧ ∃ a, xs X 6 = .ref a ∧ vk_R "WireDigs$Reader" 76 "ldrahw" a s
theorem KInv.moved {X : gX} {s U : State} (hW : s.WarmedH U.vm) (h : KInv X s) : KInv X U := by
  obtain ⟨h1, ⟨h2, h2'⟩, h3, h4, h5, h6, h7, h8, h9, ⟨mi, h10', h10⟩, aS, h11, h12⟩ := h
  have hA := hW.alike
  refine ⟨fun c q hc hq => u_Kn_moved hA (h1 c q hc hq), ⟨by rw [hA.findClass]; exact h2, fun k hk => ?_⟩, fun i ty hi hty => ⟨arrOfT_moved hA (h3 i ty hi hty).1, (h3 i ty hi hty).2.moved hA⟩, fun w hw hk => ?_, fun C hC => (h5 C hC).moved hA, fun C x y a b c d e f => (h6 C x y a b c d e f).moved f hA, h7.moved hA, fun i q hq => (h8 i q hq).moved hA, fun w hw => ?_, ⟨mi, h10', h10.moved hA⟩, aS, h11, h12.warm hW⟩
  · obtain ⟨cf, kf, fi, f, q1, q2, q3⟩ := h2' k hk
    obtain ⟨k', hi', he⟩ := State.fieldFound?_setVm hA q1
    exact ⟨cf, k', fi, f, hi', q2, q3⟩
  · have := h4 w hw hk
    cases w <;> simp only [gNwK] at hk <;> first | exact va_Nw.warmF hW this | exact va_Nw.warmM hW this | exact va_Nw.warmC hW this | exact va_Nw.warmD hW this | cases hk
  · have := h9 w hw
    simp only [gXw, List.mem_cons, List.not_mem_nil, or_false] at hw
    rcases hw with rfl | rfl <;> exact word_at hW (Or.inl rfl) this
theorem gAt.moved {X : gX} {s U : State} (hA : s.vm.Alike U.vm) {H : Heap} {a t n : Nat} {V : Nat → Value} (h : gAt X s H a t n V) : gAt X U H a t n V := by
  obtain ⟨h1, h2, h3, h4⟩ := h
  refine ⟨h1, h2, h3, fun i hi hl => ?_⟩
  obtain ⟨a0, ty, a1, cell, a2, a3, a4⟩ := h4 i hi hl
  exact ⟨a0, ty, a1, cell, a2, State.isArrayOf_alike hA a3, a4⟩
theorem Rep.moved {X : gX} {s U : State} (hA : s.vm.Alike U.vm) {G : gH} {H : Heap} (h : Rep X s G H) : Rep X U G H :=
  ⟨h.1, h.2.1, h.2.2.1, h.2.2.2.1, fun a => (h.2.2.2.2 a).moved hA⟩
theorem gAt.kept {X : gX} {s : State} {H H1 : Heap} {a t n : Nat} {V : Nat → Value} (h : gAt X s H a t n V) (hq : H1[a]? = H[a]?) : gAt X s H1 a t n V := by
  obtain ⟨h1, h2, h3, h4⟩ := h
  refine ⟨fun i hi hl => ?_, fun i hi hl => ?_, fun i hi hl => ?_, fun i hi hl => ?_⟩
  · obtain ⟨a0, a00, r, a1, a2⟩ := h1 i hi hl
    exact ⟨a0, a00, r, a1, a2.kept hq⟩
  · obtain ⟨a0, a1, a2⟩ := h2 i hi hl
    exact ⟨a0, a1, hq.trans a2⟩
  · obtain ⟨a0, r, a1, cell, a2, a3⟩ := h3 i hi hl
    exact ⟨a0, r, a1, cell, hq.trans a2, a3⟩
  · obtain ⟨a0, ty, a1, cell, a2, a3⟩ := h4 i hi hl
    exact ⟨a0, ty, a1, cell, hq.trans a2, a3⟩
/-- methods: number of the class, name, code, locals, answer -/
abbrev gM : Type := Nat × MethodName × ByteArray × Nat × Option FieldType
def mo (Y : gM) : Nat := Y.1
def my (Y : gM) : MethodName := Y.2.1
def mc (Y : gM) : ByteArray := Y.2.2.1
def mL (Y : gM) : Nat := Y.2.2.2.1
def mr (Y : gM) : Option FieldType := Y.2.2.2.2
/-- the machine's context inside a method's body -/
def gCtx (X : gX) (Y : gM) (d : Nat) (p : Program) (R : Room) (s : State) (m : MethodId) (args : Array Value) (meth : Method) (c : Code) : Prop :=
  p.tables.exec = Jvm.exec ∧ c.code = mc Y ∧ meth.sig.returnType = mr Y ∧ meth.locks = false ∧ c.maxLocals = mL Y ∧ s.vm.findClass (my Y).cls = some m.cls ∧ meth.name = (my Y).name ∧ (∀ w ∈ lw_all, w.before args s = true) ∧ KInv X s ∧ d ≤ R.frames ∧ 100 * d ≤ R.locals ∧ xb X ≤ s.heap.size ∧ ∀ q, q < xb X → s.heap[q]? = (xH X)[q]?
def gQc (X : gX) (Q : Option Value → gH → Prop) : Array Value → State → Outcome → State → Prop := fun _ st o t =>
  ∃ (r : Option Value) (G : gH), o = .returned r ∧ Q r G ∧ Rep X t G t.heap ∧ st.heap.size ≤ t.heap.size
def lvR (ls : Array Slot) (nL : Nat) (l : List (Option Value)) : Prop := ls.size = nL ∧ lv_wf ls ∧ ∀ (i : Nat) (v : Value), l[i]? = some (some v) → ls[i]? = some (.val v)
/-- from pc, with these locals and this stack, k cells and n slots to make, heap G: the method comes to its end with Q -/
def Wp (X : gX) (Y : gM) (d : Nat) (Q : Option Value → gH → Prop) (k n : Nat) (G : gH) (pc : Nat) (l : List (Option Value)) (st : List Value) : Prop :=
  ∀ (p : Program) (lc : Launch) (e : Env) (R : Room) (s : State) (m : MethodId) (args : Array Value) (below : List Frame) (meth : Method) (c : Code) (cm sm : Nat), gCtx X Y d p R s m args meth c → cm ≤ R.cells → sm ≤ R.slots →
  ∀ (H : Heap) (locs : List Loc) (cells slots : Nat) (ls : Array Slot), Rep X s G H → s.heap.size ≤ H.size → (∀ q ∈ locs, xb X ≤ q.base) → cells + k ≤ cm → slots + n ≤ sm → lvR ls (mL Y) l →
  W p lc e R s m args below meth c H locs cells slots (MQ below (gQc X Q) args s cm sm (fun q => xb X ≤ q)) (F0 m pc ls st)
/-- a method's contract: from G, with these arguments, it returns with Q; at most k cells of n slots are made; d frames deep -/
def Tri (X : gX) (d : Nat) (Y : gM) (args : List Value) (k n : Nat) (G : gH) (Q : Option Value → gH → Prop) : Prop :=
  ∀ lc : Launch, Met lc (my Y) (ws_ (my Y) (mc Y) (mL Y) (mr Y)) { frames := d, cells := k, slots := n, locals := 100 * d } (va_Pc args (fun U => Rep X U G U.heap ∧ KInv X U)) (gQc X Q) k n (fun q => xb X ≤ q)
theorem Wp.mono {X : gX} {Y : gM} {d : Nat} {Q : Option Value → gH → Prop} {k n k' n' : Nat} {G : gH} {pc : Nat} {l : List (Option Value)} {st : List Value} (h : Wp X Y d Q k' n' G pc l st) (hk : k' ≤ k) (hn : n' ≤ n) : Wp X Y d Q k n G pc l st :=
  fun p lc e R s m args below meth c cm sm C h1 h2 H locs cells slots ls r1 r2 r3 r4 r5 r6 => h p lc e R s m args below meth c cm sm C h1 h2 H locs cells slots ls r1 r2 r3 (by omega) (by omega) r6
/-- fewer known locals -/
theorem Wp.wk {X : gX} {Y : gM} {d : Nat} {Q : Option Value → gH → Prop} {k n : Nat} {G : gH} {pc : Nat} {l l' : List (Option Value)} {st : List Value} (h : Wp X Y d Q k n G pc l' st) (hl : ∀ (i : Nat) (v : Value), l'[i]? = some (some v) → l[i]? = some (some v)) : Wp X Y d Q k n G pc l st :=
  fun p lc e R s m args below meth c cm sm C h1 h2 H locs cells slots ls r1 r2 r3 r4 r5 r6 => h p lc e R s m args below meth c cm sm C h1 h2 H locs cells slots ls r1 r2 r3 r4 r5 ⟨r6.1, r6.2.1, fun i v hv => r6.2.2 i v (hl i v hv)⟩
theorem gQc.mono {X : gX} {Q Q' : Option Value → gH → Prop} (h : ∀ r G, Q r G → Q' r G) {a : Array Value} {st t : State} {o : Outcome} (hq : gQc X Q a st o t) : gQc X Q' a st o t := by
  obtain ⟨r, G, h1, h2, h3⟩ := hq
  exact ⟨r, G, h1, h _ _ h2, h3⟩
theorem Wp.post {X : gX} {Y : gM} {d : Nat} {Q Q' : Option Value → gH → Prop} {k n : Nat} {G : gH} {pc : Nat} {l : List (Option Value)} {st : List Value} (h : Wp X Y d Q k n G pc l st) (hq : ∀ r G, Q r G → Q' r G) : Wp X Y d Q' k n G pc l st := by
  intro p lc e R s m args below meth c cm sm C h1 h2 H locs cells slots ls r1 r2 r3 r4 r5 r6 T hT XS
  obtain ⟨t, a, o, b1, b2, b3, b4⟩ := h p lc e R s m args below meth c cm sm C h1 h2 H locs cells slots ls r1 r2 r3 r4 r5 r6 T hT XS
  exact ⟨t, a, o, b1, b2, gQc.mono hq b3, b4⟩
