/-! ex: what must hold for straight code to go on: Wp's rules as a function, run by simp -/
set_option maxRecDepth 100000
def flk (o idx tag : Nat) : Option Nat := ((flkL o).find? (fun e => e.1 == idx && e.2.1 == tag)).map (fun e => e.2.2)
def plk (o idx tag : Nat) : Option (Nat × FieldType × Bool) := ((plkL o).find? (fun e => e.1 == idx && e.2.1 == tag)).map (fun e => e.2.2)
def nlk (o idx : Nat) : Option Nat := ((nlkL o).find? (fun e => e.1 == idx)).map (fun e => e.2)
def cls (o idx : Nat) : Option (Nat × Nat) := ((clsL o).find? (fun e => e.1 == idx)).map (fun e => e.2)
def cli (o idx : Nat) : Option (Nat × Nat) := ((cliL o).find? (fun e => e.1 == idx)).map (fun e => e.2)
def clv (o : Nat) (ins : Instr) (tag : Nat) : Option (Nat × Nat × Nat) := ((clvL o).find? (fun e => decide (e.1 = ins) && e.2.2.1 == tag)).map (fun e => (e.2.1, e.2.2.2))
def nav (o : Nat) (ins : Instr) : Option Nat := ((clvL o).find? (fun e => decide (e.1 = ins))).map (fun e => e.2.2.2.1)
def klk (o idx tag : Nat) : Bool := (klkL o).any (fun e => e.1 == idx && e.2 == tag)
def ilk (o idx tag : Nat) : Bool := (ilkL o).any (fun e => e.1 == idx && e.2 == tag)
def slk (o idx : Nat) : Option Nat := ((slkL o).find? (fun e => e.1 == idx)).map (fun e => e.2)
def alk (o idx : Nat) : Option Nat := ((alkL o).find? (fun e => e.1 == idx)).map (fun e => e.2)
def dlk (o idx : Nat) : Option Int := ((dlkL o).find? (fun e => e.1 == idx)).map (fun e => e.2)
def d2k (o idx : Nat) : Option Int := ((d2kL o).find? (fun e => e.1 == idx)).map (fun e => e.2)
def fck (o idx : Nat) : Option UInt32 := ((fckL o).find? (fun e => e.1 == idx)).map (fun e => e.2)
theorem flk_ok {o idx tag j : Nat} (h : flk o idx tag = some j) : FG (onm o) idx tag j := by
  unfold flk at h
  obtain ⟨e, h1, h2⟩ := Option.map_eq_some_iff.mp h
  have h3 := List.find?_some h1
  have h4 := flkL_ok o e (List.mem_of_find?_eq_some h1)
  simp only [Bool.and_eq_true, beq_iff_eq] at h3
  rw [← h3.1, ← h3.2, ← h2]; exact h4
theorem plk_ok {o idx tag : Nat} {r : Nat × FieldType × Bool} (h : plk o idx tag = some r) : PG (onm o) idx tag r.1 r.2.1 r.2.2 := by
  unfold plk at h
  obtain ⟨e, h1, h2⟩ := Option.map_eq_some_iff.mp h
  have h3 := List.find?_some h1
  have h4 := plkL_ok o e (List.mem_of_find?_eq_some h1)
  simp only [Bool.and_eq_true, beq_iff_eq] at h3
  rw [← h3.1, ← h3.2, ← h2]; exact h4
theorem nlk_ok {o idx i : Nat} (h : nlk o idx = some i) : NG (onm o) idx i := by
  unfold nlk at h
  obtain ⟨e, h1, h2⟩ := Option.map_eq_some_iff.mp h
  have h3 := List.find?_some h1
  have h4 := nlkL_ok o e (List.mem_of_find?_eq_some h1)
  simp only [beq_iff_eq] at h3
  rw [← h3, ← h2]; exact h4
theorem cls_ok {o idx : Nat} {r : Nat × Nat} (h : cls o idx = some r) : CS (onm o) (.invokestatic idx) 3 0 r.1 (mth r.2) := by
  unfold cls at h
  obtain ⟨e, h1, h2⟩ := Option.map_eq_some_iff.mp h
  have h3 := List.find?_some h1
  have h4 : CS (onm o) (.invokestatic e.1) 3 0 e.2.1 (mth e.2.2) := clsL_ok o e (List.mem_of_find?_eq_some h1)
  simp only [beq_iff_eq] at h3
  rw [← h3, ← h2]; exact @h4
theorem cli_ok {o idx : Nat} {r : Nat × Nat} (h : cli o idx = some r) : ∀ tag, tag ≠ 0 → CS (onm o) (.invokespecial idx) 3 tag r.1 (mth r.2) := by
  unfold cli at h
  obtain ⟨e, h1, h2⟩ := Option.map_eq_some_iff.mp h
  have h3 := List.find?_some h1
  have h4 : ∀ tag, tag ≠ 0 → CS (onm o) (.invokespecial e.1) 3 tag e.2.1 (mth e.2.2) := cliL_ok o e (List.mem_of_find?_eq_some h1)
  simp only [beq_iff_eq] at h3
  rw [← h3, ← h2]; exact h4
theorem clv_ok {o tag : Nat} {ins : Instr} {r : Nat × Nat × Nat} (h : clv o ins tag = some r) : CS (onm o) ins r.1 tag r.2.1 (mth r.2.2) := by
  unfold clv at h
  obtain ⟨e, h1, h2⟩ := Option.map_eq_some_iff.mp h
  have h3 := List.find?_some h1
  have h4 : CS (onm o) e.1 e.2.1 e.2.2.1 e.2.2.2.1 (mth e.2.2.2.2) := clvL_ok o e (List.mem_of_find?_eq_some h1)
  simp only [Bool.and_eq_true, beq_iff_eq, decide_eq_true_eq] at h3
  rw [← h3.1, ← h3.2, ← h2]; exact @h4
theorem klk_ok {o idx tag : Nat} (h : klk o idx tag = true) : CG (onm o) idx tag := by
  unfold klk at h
  obtain ⟨e, h1, h2⟩ := List.any_eq_true.mp h
  simp only [Bool.and_eq_true, beq_iff_eq] at h2
  rw [← h2.1, ← h2.2]; exact klkL_ok o e h1
theorem ilk_ok {o idx tag : Nat} (h : ilk o idx tag = true) : CG (onm o) idx tag := by
  unfold ilk at h
  obtain ⟨e, h1, h2⟩ := List.any_eq_true.mp h
  simp only [Bool.and_eq_true, beq_iff_eq] at h2
  rw [← h2.1, ← h2.2]; exact ilkL_ok o e h1
theorem slk_ok {o idx i : Nat} (h : slk o idx = some i) : GS (onm o) idx i := by
  unfold slk at h
  obtain ⟨e, h1, h2⟩ := Option.map_eq_some_iff.mp h
  have h3 := List.find?_some h1
  have h4 := slkL_ok o e (List.mem_of_find?_eq_some h1)
  simp only [beq_iff_eq] at h3
  rw [← h3, ← h2]; exact h4
theorem alk_ok {o idx i : Nat} (h : alk o idx = some i) : AG (onm o) idx i := by
  unfold alk at h
  obtain ⟨e, h1, h2⟩ := Option.map_eq_some_iff.mp h
  have h3 := List.find?_some h1
  have h4 := alkL_ok o e (List.mem_of_find?_eq_some h1)
  simp only [beq_iff_eq] at h3
  rw [← h3, ← h2]; exact h4
theorem dlk_ok {o idx : Nat} {z : Int} (h : dlk o idx = some z) : Cond.constant (onm o) idx (iI z) ∈ lw_all := by
  unfold dlk at h
  obtain ⟨e, h1, h2⟩ := Option.map_eq_some_iff.mp h
  have h3 := List.find?_some h1
  have h4 := dlkL_ok o e (List.mem_of_find?_eq_some h1)
  simp only [beq_iff_eq] at h3
  rw [← h3, ← h2]; exact h4
theorem d2k_ok {o idx : Nat} {z : Int} (h : d2k o idx = some z) : Cond.constantLong (onm o) idx (lI z) ∈ lw_all := by
  unfold d2k at h
  obtain ⟨e, h1, h2⟩ := Option.map_eq_some_iff.mp h
  have h3 := List.find?_some h1
  have h4 := d2kL_ok o e (List.mem_of_find?_eq_some h1)
  simp only [beq_iff_eq] at h3
  rw [← h3, ← h2]; exact h4
theorem fck_ok {o idx : Nat} {z : UInt32} (h : fck o idx = some z) : Cond.constantFloat (onm o) idx z ∈ lw_all := by
  unfold fck at h
  obtain ⟨e, h1, h2⟩ := Option.map_eq_some_iff.mp h
  have h3 := List.find?_some h1
  have h4 := fckL_ok o e (List.mem_of_find?_eq_some h1)
  simp only [beq_iff_eq] at h3
  rw [← h3, ← h2]; exact h4
/-- a call's goal: a contract of the method, and what goes on behind it -/
def gCall (X : gX) (d : Nat) (Y' : gM) (args : List Value) (k n : Nat) (G : gH) (K : Nat → Nat → Option Value → gH → Prop) : Prop :=
  ∃ dd k' n' P, dd < d ∧ k' ≤ k ∧ n' ≤ n ∧ Tri X dd Y' args k' n' G P ∧ ∀ r G', P r G' → K (k - k') (n - n') r G'
theorem gCall.of {X : gX} {d dd k n k' n' : Nat} {Y' : gM} {args : List Value} {G : gH} {K : Nat → Nat → Option Value → gH → Prop} {P : Option Value → gH → Prop} (h : Tri X dd Y' args k' n' G P) (hd : dd < d) (hk : k' ≤ k) (hn : n' ≤ n) (hK : ∀ r G', P r G' → K (k - k') (n - n') r G') : gCall X d Y' args k n G K := ⟨dd, k', n', P, hd, hk, hn, h, hK⟩
section
variable (X : gX) (Y : gM) (d : Nat) (Q : Option Value → gH → Prop) (c : Nat → Nat → gH → Nat → List (Option Value) → List Value → Prop) (k n : Nat) (G : gH) (pc : Nat) (l : List (Option Value)) (st : List Value)
/-- stack shapes; e: what is left when the shape isn't there -/
def si1 (st : List Value) (e : Prop) (f : Int32 → List Value → Prop) : Prop := match st with
  | .int x :: r => f x r
  | _ => e
def si2 (st : List Value) (e : Prop) (f : Int32 → Int32 → List Value → Prop) : Prop := match st with
  | .int y :: .int x :: r => f x y r
  | _ => e
def sl2 (st : List Value) (e : Prop) (f : Int64 → Int64 → List Value → Prop) : Prop := match st with
  | .long y :: .long x :: r => f x y r
  | _ => e
def sf1 (st : List Value) (e : Prop) (f : UInt32 → List Value → Prop) : Prop := match st with
  | .float x :: r => f x r
  | _ => e
def sf2 (st : List Value) (e : Prop) (f : UInt32 → UInt32 → List Value → Prop) : Prop := match st with
  | .float y :: .float x :: r => f x y r
  | _ => e
def sr1 (st : List Value) (e : Prop) (f : Nat → List Value → Prop) : Prop := match st with
  | .ref a :: r => f a r
  | _ => e
def sv1 (st : List Value) (e : Prop) (f : Value → List Value → Prop) : Prop := match st with
  | v :: r => f v r
  | _ => e
def sv2 (st : List Value) (e : Prop) (f : Value → Value → List Value → Prop) : Prop := match st with
  | v :: w :: r => f v w r
  | _ => e
def sv3 (st : List Value) (e : Prop) (f : Value → Value → Value → List Value → Prop) : Prop := match st with
  | v :: w :: u :: r => f v w u r
  | _ => e
def svr (st : List Value) (e : Prop) (f : Value → Nat → List Value → Prop) : Prop := match st with
  | v :: .ref a :: r => f v a r
  | _ => e
def sai (st : List Value) (e : Prop) (f : Int32 → Nat → List Value → Prop) : Prop := match st with
  | .int j :: .ref a :: r => f j a r
  | _ => e
def svai (st : List Value) (e : Prop) (f : Value → Int32 → Nat → List Value → Prop) : Prop := match st with
  | v :: .int j :: .ref a :: r => f v j a r
  | _ => e
def li (o : Option (Option Value)) (e : Prop) (f : Int32 → Prop) : Prop := match o with
  | some (some (.int x)) => f x
  | _ => e
def ll (o : Option (Option Value)) (e : Prop) (f : Int64 → Prop) : Prop := match o with
  | some (some (.long x)) => f x
  | _ => e
def lf (o : Option (Option Value)) (e : Prop) (f : UInt32 → Prop) : Prop := match o with
  | some (some (.float x)) => f x
  | _ => e
def lv (o : Option (Option Value)) (e : Prop) (f : Value → Prop) : Prop := match o with
  | some (some v) => f v
  | _ => e
def oe {α : Type} (o : Option α) (e : Prop) (f : α → Prop) : Prop := match o with
  | some a => f a
  | none => e
def jok (off : Int) : Prop := 0 ≤ (pc : Int) + off
def jmp (off : Int) (l : List (Option Value)) (st : List Value) : Prop := c k n G ((pc : Int) + off).toNat l st
def tsw (st : List Value) (x : Int) : Int → List Int → Prop
  | _, [] => True
  | lo, o :: t => (x = lo → jok pc o ∧ jmp c k n G pc o l st) ∧ tsw st x (lo + 1) t
def lsw (st : List Value) (x dflt : Int) : List (Int × Int) → Prop
  | [] => jok pc dflt ∧ jmp c k n G pc dflt l st
  | q :: t => (x = q.1 → jok pc q.2 ∧ jmp c k n G pc q.2 l st) ∧ (x ≠ q.1 → lsw st x dflt t)
def inv (na mi len : Nat) : Prop := na ≤ st.length ∧ (st.drop na).length ≤ 4 ∧ gCall X d (mth mi) ((st.take na).reverse) k n G (fun k n r G => Wp X Y d Q k n G (pc + len) l (r.toList ++ st.drop na))
def rcv (na : Nat) (st : List Value) (e : Prop) (f : Nat → Prop) : Prop := match st[na - 1]? with
  | some (.ref b) => f b
  | _ => e
def vinv (ins : Instr) (z : Nat) : Prop := oe (nav (mo Y) ins) (Wp X Y d Q k n G pc l st) fun na => 1 ≤ na ∧ rcv na st (Wp X Y d Q k n G pc l st) fun b => oe (clv (mo Y) ins (gc G b)) (Wp X Y d Q k n G pc l st) fun q => q.1 = z ∧ q.2.1 = na ∧ gc G b ≠ 0 ∧ inv X Y d Q k n G pc l st na q.2.2 z
/-- one instruction i of length z, standing at pc; c goes on; where the rule's table or the stack's shape is wanting: Wp itself is left -/
def stp (i : Instr) (z : Nat) : Prop :=
  let e := Wp X Y d Q k n G pc l st
  match i with
  | .iconst v => z = 1 ∧ c k n G (pc + 1) l (.int (iI v) :: st)
  | .bipush v => z = 2 ∧ (-128 ≤ v ∧ v < 128) ∧ c k n G (pc + 2) l (.int (iI v) :: st)
  | .sipush v => z = 3 ∧ (-32768 ≤ v ∧ v < 32768) ∧ c k n G (pc + 3) l (.int (iI v) :: st)
  | .lconst v => z = 1 ∧ c k n G (pc + 1) l (.long (lI (v.val : Int)) :: st)
  | .aconst_null => z = 1 ∧ c k n G (pc + 1) l (.null :: st)
  | .iload i => z = 2 ∧ li l[i]? e fun x => c k n G (pc + 2) l (.int x :: st)
  | .iload_n i => z = 1 ∧ li l[i.val]? e fun x => c k n G (pc + 1) l (.int x :: st)
  | .lload i => z = 2 ∧ ll l[i]? e fun x => c k n G (pc + 2) l (.long x :: st)
  | .lload_n i => z = 1 ∧ ll l[i.val]? e fun x => c k n G (pc + 1) l (.long x :: st)
  | .fload i => z = 2 ∧ lf l[i]? e fun x => c k n G (pc + 2) l (.float x :: st)
  | .fload_n i => z = 1 ∧ lf l[i.val]? e fun x => c k n G (pc + 1) l (.float x :: st)
  | .aload i => z = 2 ∧ lv l[i]? e fun v => rfOK v ∧ c k n G (pc + 2) l (v :: st)
  | .aload_n i => z = 1 ∧ lv l[i.val]? e fun v => rfOK v ∧ c k n G (pc + 1) l (v :: st)
  | .istore i => z = 2 ∧ i < mL Y ∧ si1 st e fun x r => c k n G (pc + 2) (lset l i (.int x)) r
  | .istore_n i => z = 1 ∧ i.val < mL Y ∧ si1 st e fun x r => c k n G (pc + 1) (lset l i.val (.int x)) r
  | .fstore i => z = 2 ∧ i < mL Y ∧ sf1 st e fun x r => c k n G (pc + 2) (lset l i (.float x)) r
  | .astore i => z = 2 ∧ i < mL Y ∧ sv1 st e fun v r => rfOK v ∧ c k n G (pc + 2) (lset l i v) r
  | .astore_n i => z = 1 ∧ i.val < mL Y ∧ sv1 st e fun v r => rfOK v ∧ c k n G (pc + 1) (lset l i.val v) r
  | .iinc i v => z = 3 ∧ i < mL Y ∧ li l[i]? e fun x => c k n G (pc + 3) (lset l i (.int (x + iI v))) st
  | .iadd => z = 1 ∧ si2 st e fun x y r => c k n G (pc + 1) l (.int (x + y) :: r)
  | .isub => z = 1 ∧ si2 st e fun x y r => c k n G (pc + 1) l (.int (x - y) :: r)
  | .imul => z = 1 ∧ si2 st e fun x y r => c k n G (pc + 1) l (.int (x * y) :: r)
  | .idiv => z = 1 ∧ si2 st e fun x y r => y.toInt ≠ 0 ∧ c k n G (pc + 1) l (.int (x / y) :: r)
  | .irem => z = 1 ∧ si2 st e fun x y r => y.toInt ≠ 0 ∧ c k n G (pc + 1) l (.int (irm x y) :: r)
  | .ineg => z = 1 ∧ si1 st e fun x r => c k n G (pc + 1) l (.int (-x) :: r)
  | .iand => z = 1 ∧ si2 st e fun x y r => c k n G (pc + 1) l (.int (x &&& y) :: r)
  | .ior => z = 1 ∧ si2 st e fun x y r => c k n G (pc + 1) l (.int (x ||| y) :: r)
  | .ixor => z = 1 ∧ si2 st e fun x y r => c k n G (pc + 1) l (.int (x ^^^ y) :: r)
  | .ishl => z = 1 ∧ si2 st e fun x y r => c k n G (pc + 1) l (.int (x <<< (y &&& 31)) :: r)
  | .ishr => z = 1 ∧ si2 st e fun x y r => c k n G (pc + 1) l (.int (x >>> (y &&& 31)) :: r)
  | .iushr => z = 1 ∧ si2 st e fun x y r => c k n G (pc + 1) l (.int ((x.toUInt32 >>> (y.toUInt32 &&& Int32.toUInt32 31)).toInt32) :: r)
  | .i2l => z = 1 ∧ si1 st e fun x r => c k n G (pc + 1) l (.long (lI x.toInt) :: r)
  | .i2b => z = 1 ∧ si1 st e fun x r => c k n G (pc + 1) l (.int x.toInt8.toInt32 :: r)
  | .i2c => z = 1 ∧ si1 st e fun x r => c k n G (pc + 1) l (.int (x.toUInt32 % 65536).toInt32 :: r)
  | .i2f => z = 1 ∧ si1 st e fun x r => c k n G (pc + 1) l (.float (FP.i2f x) :: r)
  | .f2i => z = 1 ∧ sf1 st e fun x r => c k n G (pc + 1) l (.int (FP.f2i x) :: r)
  | .fmul => z = 1 ∧ sf2 st e fun x y r => vf_n32 (FP.fmul x y) ∧ c k n G (pc + 1) l (.float (FP.fmul x y) :: r)
  | .fcmp op => z = 1 ∧ sf2 st e fun x y r => c k n G (pc + 1) l (.int (Op.cmpValue (FP.fcmp x y) op) :: r)
  | .lcmp => z = 1 ∧ sl2 st e fun x y r => c k n G (pc + 1) l (.int (lg_cmp x y) :: r)
  | .dup => z = 1 ∧ sv1 st e fun v r => isC2 v = false ∧ c k n G (pc + 1) l (v :: v :: r)
  | .dup_x1 => z = 1 ∧ sv2 st e fun v w r => isC2 v = false ∧ isC2 w = false ∧ c k n G (pc + 1) l (v :: w :: v :: r)
  | .dup_x2 => z = 1 ∧ sv3 st e fun v w u r => isC2 v = false ∧ isC2 w = false ∧ isC2 u = false ∧ c k n G (pc + 1) l (v :: w :: u :: v :: r)
  | .dup2 => z = 1 ∧ sv2 st e fun v w r => isC2 v = false ∧ isC2 w = false ∧ c k n G (pc + 1) l (v :: w :: v :: w :: r)
  | .pop => z = 1 ∧ sv1 st e fun v r => isC2 v = false ∧ c k n G (pc + 1) l r
  | .goto off => z = 3 ∧ jok pc off ∧ jmp c k n G pc off l st
  | .if_icmp cd off => z = 3 ∧ jok pc off ∧ si2 st e fun x y r => (cnd cd x y → jmp c k n G pc off l r) ∧ (¬ cnd cd x y → c k n G (pc + 3) l r)
  | .ifCond cd off => z = 3 ∧ jok pc off ∧ si1 st e fun x r => (cnd cd x 0 → jmp c k n G pc off l r) ∧ (¬ cnd cd x 0 → c k n G (pc + 3) l r)
  | .if_acmp .eq off => z = 3 ∧ jok pc off ∧ sv2 st e fun w v r => rfOK v ∧ rfOK w ∧ (v = w → jmp c k n G pc off l r) ∧ (¬ v = w → c k n G (pc + 3) l r)
  | .if_acmp .ne off => z = 3 ∧ jok pc off ∧ sv2 st e fun w v r => rfOK v ∧ rfOK w ∧ (¬ v = w → jmp c k n G pc off l r) ∧ (v = w → c k n G (pc + 3) l r)
  | .ifnull off => z = 3 ∧ jok pc off ∧ sv1 st e fun v r => rfOK v ∧ (v = .null → jmp c k n G pc off l r) ∧ (v ≠ .null → c k n G (pc + 3) l r)
  | .ifnonnull off => z = 3 ∧ jok pc off ∧ sv1 st e fun v r => rfOK v ∧ (v ≠ .null → jmp c k n G pc off l r) ∧ (v = .null → c k n G (pc + 3) l r)
  | .tableswitch dflt lo hi offs => hi = lo + offs.toList.length - 1 ∧ si1 st e fun x r => ((x.toInt < lo ∨ hi < x.toInt) → jok pc dflt ∧ jmp c k n G pc dflt l r) ∧ tsw c k n G pc l r x.toInt lo offs.toList
  | .lookupswitch dflt ps => (ps.toList.zip (ps.toList.drop 1)).all (fun (a, next) => a.1 < next.1) = true ∧ si1 st e fun x r => lsw c k n G pc l r x.toInt dflt ps.toList
  | .arraylength => z = 1 ∧ sr1 st e fun a r => ((101 ≤ gc G a ∧ gc G a < 107) ∨ (301 ≤ gc G a ∧ gc G a < 307)) ∧ c k n G (pc + 1) l (.int (iI (gl G a)) :: r)
  | .iaload => z = 1 ∧ sai st e fun j a r => (gc G a = 102 ∨ gc G a = 302) ∧ 0 ≤ j.toInt ∧ j.toInt.toNat < gl G a ∧ c k n G (pc + 1) l (gm G a j.toInt.toNat :: r)
  | .baload => z = 1 ∧ sai st e fun j a r => ((gc G a = 101 ∨ gc G a = 301) ∨ gc G a = 103 ∨ gc G a = 303) ∧ 0 ≤ j.toInt ∧ j.toInt.toNat < gl G a ∧ c k n G (pc + 1) l (gm G a j.toInt.toNat :: r)
  | .aaload => z = 1 ∧ sai st e fun j a r => ((104 ≤ gc G a ∧ gc G a < 107) ∨ (304 ≤ gc G a ∧ gc G a < 307)) ∧ 0 ≤ j.toInt ∧ j.toInt.toNat < gl G a ∧ c k n G (pc + 1) l (gm G a j.toInt.toNat :: r)
  | .iastore => z = 1 ∧ svai st e fun v j a r => gc G a = 102 ∧ 0 ≤ j.toInt ∧ j.toInt.toNat < gl G a ∧ (∃ x, v = .int x) ∧ c k n (gput G a j.toInt.toNat v) (pc + 1) l r
  | .bastore => z = 1 ∧ svai st e fun v j a r => (gc G a = 101 ∧ narrow .byte v = v ∨ gc G a = 103 ∧ narrow .boolean v = v) ∧ 0 ≤ j.toInt ∧ j.toInt.toNat < gl G a ∧ (∃ x, v = .int x) ∧ c k n (gput G a j.toInt.toNat v) (pc + 1) l r
  | .aastore => z = 1 ∧ svai st e fun v j a r => (gc G a = 104 ∨ gc G a = 105) ∧ 0 ≤ j.toInt ∧ j.toInt.toNat < gl G a ∧ (v = .null ∨ ∃ b, v = .ref b ∧ SG (gc G a - 101) (gc G b)) ∧ c k n (gput G a j.toInt.toNat v) (pc + 1) l r
  | .getfield idx => z = 3 ∧ sr1 st e fun a r => oe (flk (mo Y) idx (gc G a)) e fun j => c k n G (pc + 3) l (gm G a j :: r)
  | .putfield idx => z = 3 ∧ svr st e fun v a r => oe (plk (mo Y) idx (gc G a)) e fun q => (q.2.2 = true → (my Y).name = "<init>") ∧ narrow q.2.1 v = v ∧ fits q.2.1 v = true ∧ c k n (gput G a q.1 v) (pc + 3) l r
  | .getstatic idx => z = 3 ∧ oe (slk (mo Y) idx) e fun i => c k n G (pc + 3) l (xs X i :: st)
  | .new idx => z = 3 ∧ oe (nlk (mo Y) idx) e fun i => 1 ≤ k ∧ gNf i ≤ n ∧ c (k - 1) (n - gNf i) (gnew G (i + 1) 0 (vp_V (gDf i))) (pc + 3) l (.ref (gs G) :: st)
  | .newarray at0 => z = 2 ∧ si1 st e fun x r => 0 ≤ x.toInt ∧ x.toInt ≤ 100000 ∧ 1 ≤ k ∧ x.toInt.toNat ≤ n ∧ oe (match at0 with | .byte => some 0 | .int => some 1 | .boolean => some 2 | _ => none) e fun i => c (k - 1) (n - x.toInt.toNat) (gnew G (i + 101) x.toInt.toNat (fun _ => .int 0)) (pc + 2) l (.ref (gs G) :: r)
  | .anewarray idx => z = 3 ∧ si1 st e fun x r => 0 ≤ x.toInt ∧ x.toInt ≤ 100000 ∧ 1 ≤ k ∧ x.toInt.toNat ≤ n ∧ oe (alk (mo Y) idx) e fun i => c (k - 1) (n - x.toInt.toNat) (gnew G (i + 101) x.toInt.toNat (fun _ => .null)) (pc + 3) l (.ref (gs G) :: r)
  | .checkcast idx => z = 3 ∧ sv1 st e fun v r => (v = .null ∨ ∃ a, v = .ref a ∧ klk (mo Y) idx (gc G a) = true) ∧ c k n G (pc + 3) l (v :: r)
  | .instanceof idx => z = 3 ∧ sr1 st e fun a r => ilk (mo Y) idx (gc G a) = true ∧ c k n G (pc + 3) l (.int (iI 1) :: r)
  | .ldc idx => z = 2 ∧ oe (dlk (mo Y) idx) (oe (fck (mo Y) idx) e fun v => c k n G (pc + 2) l (.float v :: st)) fun v => c k n G (pc + 2) l (.int (iI v) :: st)
  | .ldc2_w idx => z = 3 ∧ oe (d2k (mo Y) idx) e fun v => c k n G (pc + 3) l (.long (lI v) :: st)
  | .invokestatic idx => z = 3 ∧ oe (cls (mo Y) idx) e fun q => inv X Y d Q k n G pc l st q.1 q.2 3
  | .invokevirtual idx => vinv X Y d Q k n G pc l st (.invokevirtual idx) z
  | .invokeinterface idx cnt => vinv X Y d Q k n G pc l st (.invokeinterface idx cnt) z
  | .invokespecial idx => z = 3 ∧ oe (cli (mo Y) idx) (vinv X Y d Q k n G pc l st (.invokespecial idx) z) fun q => rcv q.1 st e fun b => 1 ≤ q.1 ∧ gc G b ≠ 0 ∧ inv X Y d Q k n G pc l st q.1 q.2 3
  | .return_ => z = 1 ∧ st = [] ∧ mr Y = none ∧ Q none G
  | .ireturn => z = 1 ∧ si1 st e fun x r => r = [] ∧ oe (mr Y) e fun ty => narrow ty (.int x) = .int x ∧ Q (some (.int x)) G
  | .areturn => z = 1 ∧ sv1 st e fun v r => r = [] ∧ ((∃ nm, mr Y = some (.object nm)) ∨ ∃ t, mr Y = some (.array t)) ∧ rfOK v ∧ Q (some v) G
  | _ => e
end
def ex (X : gX) (Y : gM) (d : Nat) (Q : Option Value → gH → Prop) : Nat → Nat → Nat → gH → Nat → List (Option Value) → List Value → Prop
  | 0, k, n, G, pc, l, st => Wp X Y d Q k n G pc l st
  | f + 1, k, n, G, pc, l, st => match decode (mc Y) pc with
    | .ok q => stp X Y d Q (ex X Y d Q f) k n G pc l st q.1 q.2
    | .error _ => Wp X Y d Q k n G pc l st
theorem take_drop {st : List Value} {na : Nat} : ((st.take na).reverse).reverse ++ st.drop na = st := by rw [List.reverse_reverse, List.take_append_drop]
theorem rcv_args {st : List Value} {na b : Nat} (hl : na ≤ st.length) (h1 : 1 ≤ na) (h : st[na - 1]? = some (.ref b)) : ∃ As, (st.take na).reverse = .ref b :: As := by
  have hlt : na - 1 < st.length := by omega
  have e : st.take na = st.take (na - 1) ++ [.ref b] := by
    have h2 : na = (na - 1) + 1 := by omega
    rw [h2, List.take_add_one, ← h2, h]
    rfl
  rw [e, List.reverse_append]
  exact ⟨_, rfl⟩
theorem inv_ok {X : gX} {Y : gM} {d : Nat} {Q : Option Value → gH → Prop} {k n : Nat} {G : gH} {pc : Nat} {l : List (Option Value)} {st : List Value} {ins : Instr} {na mi len tag : Nat} (hY : (my Y).cls = onm (mo Y)) (hd : decode (mc Y) pc = .ok (ins, len)) (hC : CS (onm (mo Y)) ins len tag na (mth mi)) (ht : tag = 0 ∨ (1 ≤ na ∧ ∃ b, st[na - 1]? = some (.ref b) ∧ gc G b = tag)) (h : inv X Y d Q k n G pc l st na mi len) : Wp X Y d Q k n G pc l st := by
  obtain ⟨h1, h2, dd, k', n', P, g1, g2, g3, g4, g5⟩ := h
  have h3 := hC (X := X) (Q := Q) (l := l) (rest := st.drop na) (args := (st.take na).reverse) hY hd (by simp; omega) (by
    rcases ht with ht | ⟨hna, b, hb, ht⟩
    · exact Or.inl ht
    · obtain ⟨As, hA⟩ := rcv_args h1 hna hb
      exact Or.inr ⟨b, As, hA, ht⟩) h2 g1 g2 g3 g4 g5
  rw [take_drop] at h3
  exact h3
theorem jmp_ok {X : gX} {Y : gM} {d : Nat} {Q : Option Value → gH → Prop} {c : Nat → Nat → gH → Nat → List (Option Value) → List Value → Prop} {k n : Nat} {G : gH} {pc : Nat} {l : List (Option Value)} {st : List Value} {off : Int} (hc : ∀ k n G pc l st, c k n G pc l st → Wp X Y d Q k n G pc l st) (h : jok pc off ∧ jmp c k n G pc off l st) : (pc : Int) + off = (((pc : Int) + off).toNat : Int) ∧ Wp X Y d Q k n G ((pc : Int) + off).toNat l st := ⟨by have := h.1; unfold jok at this; omega, hc _ _ _ _ _ _ h.2⟩
theorem jok_t {pc : Nat} {off : Int} (h : jok pc off) : (pc : Int) + off = (((pc : Int) + off).toNat : Int) := by unfold jok at h; omega
theorem tsw_ok {c : Nat → Nat → gH → Nat → List (Option Value) → List Value → Prop} {k n : Nat} {G : gH} {pc : Nat} {l : List (Option Value)} {r : List Value} (x : Int) : ∀ (os : List Int) (lo : Int), tsw c k n G pc l r x lo os → lo ≤ x → ∀ off, os[(x - lo).toNat]? = some off → jok pc off ∧ jmp c k n G pc off l r := by
  intro os
  induction os with
  | nil => intro lo _ _ off h; simp at h
  | cons o t ih =>
    intro lo h hl off ho
    obtain ⟨h1, h2⟩ := h
    by_cases he : x = lo
    · subst he
      simp at ho
      subst ho
      exact h1 rfl
    · have e : (x - lo).toNat = (x - (lo + 1)).toNat + 1 := by omega
      rw [e, List.getElem?_cons_succ] at ho
      exact ih (lo + 1) h2 (by omega) off ho
theorem lsw_ok {c : Nat → Nat → gH → Nat → List (Option Value) → List Value → Prop} {k n : Nat} {G : gH} {pc : Nat} {l : List (Option Value)} {r : List Value} (x dflt : Int) : ∀ (ps : List (Int × Int)), lsw c k n G pc l r x dflt ps → jok pc (Op.lookupswitch.offset ps dflt x) ∧ jmp c k n G pc (Op.lookupswitch.offset ps dflt x) l r := by
  intro ps
  induction ps with
  | nil => intro h; exact h
  | cons q t ih =>
    intro h
    rw [Op.lookupswitch.offset_cons]
    by_cases he : x = q.1
    · rw [if_pos he.symm]; exact h.1 he
    · rw [if_neg (fun z => he z.symm)]; exact ih (h.2 he)
theorem vinv_ok {X : gX} {Y : gM} {d : Nat} {Q : Option Value → gH → Prop} {k n : Nat} {G : gH} {pc : Nat} {l : List (Option Value)} {st : List Value} {ins : Instr} {z : Nat} (hY : (my Y).cls = onm (mo Y)) (hd : decode (mc Y) pc = .ok (ins, z)) (h : vinv X Y d Q k n G pc l st ins z) : Wp X Y d Q k n G pc l st := by
  unfold vinv oe at h
  split at h
  · obtain ⟨h1, h⟩ := h
    unfold rcv at h
    split at h
    · next b hb =>
      split at h
      · next q hq =>
        obtain ⟨rfl, rfl, h3, h4⟩ := h
        exact inv_ok hY hd (clv_ok hq) (Or.inr ⟨h1, b, hb, rfl⟩) h4
      · exact h
    · exact h
  · exact h
theorem stp_ok {X : gX} {Y : gM} {d : Nat} {Q : Option Value → gH → Prop} {c : Nat → Nat → gH → Nat → List (Option Value) → List Value → Prop} {k n : Nat} {G : gH} {pc : Nat} {l : List (Option Value)} {st : List Value} {i : Instr} {z : Nat} (hY : (my Y).cls = onm (mo Y)) (hc : ∀ k n G pc l st, c k n G pc l st → Wp X Y d Q k n G pc l st) (hd : decode (mc Y) pc = .ok (i, z)) (h : stp X Y d Q c k n G pc l st i z) : Wp X Y d Q k n G pc l st := by
  cases i with
  | iconst v => obtain ⟨rfl, h⟩ := h; exact w_iconst hd (hc _ _ _ _ _ _ h)
  | bipush v => obtain ⟨rfl, h1, h⟩ := h; exact w_bipush hd h1 (hc _ _ _ _ _ _ h)
  | sipush v => obtain ⟨rfl, h1, h⟩ := h; exact w_sipush hd h1 (hc _ _ _ _ _ _ h)
  | lconst v => obtain ⟨rfl, h⟩ := h; exact w_lconst hd (hc _ _ _ _ _ _ h)
  | aconst_null => obtain ⟨rfl, h⟩ := h; exact w_null hd (hc _ _ _ _ _ _ h)
  | iload i => obtain ⟨rfl, h⟩ := h; unfold li at h; split at h <;> first | exact w_iload hd (by assumption) (hc _ _ _ _ _ _ h) | exact h
  | iload_n i => obtain ⟨rfl, h⟩ := h; unfold li at h; split at h <;> first | exact w_iload_n hd (by assumption) (hc _ _ _ _ _ _ h) | exact h
  | lload i => obtain ⟨rfl, h⟩ := h; unfold ll at h; split at h <;> first | exact w_lload hd (by assumption) (hc _ _ _ _ _ _ h) | exact h
  | lload_n i => obtain ⟨rfl, h⟩ := h; unfold ll at h; split at h <;> first | exact w_lload_n hd (by assumption) (hc _ _ _ _ _ _ h) | exact h
  | fload i => obtain ⟨rfl, h⟩ := h; unfold lf at h; split at h <;> first | exact w_fload hd (by assumption) (hc _ _ _ _ _ _ h) | exact h
  | fload_n i => obtain ⟨rfl, h⟩ := h; unfold lf at h; split at h <;> first | exact w_fload_n hd (by assumption) (hc _ _ _ _ _ _ h) | exact h
  | aload i => obtain ⟨rfl, h⟩ := h; unfold lv at h; split at h <;> first | exact w_aload hd (by assumption) h.1 (hc _ _ _ _ _ _ h.2) | exact h
  | aload_n i => obtain ⟨rfl, h⟩ := h; unfold lv at h; split at h <;> first | exact w_aload_n hd (by assumption) h.1 (hc _ _ _ _ _ _ h.2) | exact h
  | istore i => obtain ⟨rfl, h1, h⟩ := h; unfold si1 at h; split at h <;> first | exact w_istore hd h1 (hc _ _ _ _ _ _ h) | exact h
  | istore_n i => obtain ⟨rfl, h1, h⟩ := h; unfold si1 at h; split at h <;> first | exact w_istore_n hd h1 (hc _ _ _ _ _ _ h) | exact h
  | fstore i => obtain ⟨rfl, h1, h⟩ := h; unfold sf1 at h; split at h <;> first | exact w_fstore hd h1 (hc _ _ _ _ _ _ h) | exact h
  | astore i => obtain ⟨rfl, h1, h⟩ := h; unfold sv1 at h; split at h <;> first | exact w_astore hd h1 h.1 (hc _ _ _ _ _ _ h.2) | exact h
  | astore_n i => obtain ⟨rfl, h1, h⟩ := h; unfold sv1 at h; split at h <;> first | exact w_astore_n hd h1 h.1 (hc _ _ _ _ _ _ h.2) | exact h
  | iinc i v => obtain ⟨rfl, h1, h⟩ := h; unfold li at h; split at h <;> first | exact w_iinc hd h1 (by assumption) (hc _ _ _ _ _ _ h) | exact h
  | iadd => obtain ⟨rfl, h⟩ := h; unfold si2 at h; split at h <;> first | exact w_iadd hd (hc _ _ _ _ _ _ h) | exact h
  | isub => obtain ⟨rfl, h⟩ := h; unfold si2 at h; split at h <;> first | exact w_isub hd (hc _ _ _ _ _ _ h) | exact h
  | imul => obtain ⟨rfl, h⟩ := h; unfold si2 at h; split at h <;> first | exact w_imul hd (hc _ _ _ _ _ _ h) | exact h
  | idiv => obtain ⟨rfl, h⟩ := h; unfold si2 at h; split at h <;> first | exact w_idiv hd h.1 (hc _ _ _ _ _ _ h.2) | exact h
  | irem => obtain ⟨rfl, h⟩ := h; unfold si2 at h; split at h <;> first | exact w_irem hd h.1 (hc _ _ _ _ _ _ h.2) | exact h
  | ineg => obtain ⟨rfl, h⟩ := h; unfold si1 at h; split at h <;> first | exact w_ineg hd (hc _ _ _ _ _ _ h) | exact h
  | iand => obtain ⟨rfl, h⟩ := h; unfold si2 at h; split at h <;> first | exact w_iand hd (hc _ _ _ _ _ _ h) | exact h
  | ior => obtain ⟨rfl, h⟩ := h; unfold si2 at h; split at h <;> first | exact w_ior hd (hc _ _ _ _ _ _ h) | exact h
  | ixor => obtain ⟨rfl, h⟩ := h; unfold si2 at h; split at h <;> first | exact w_ixor hd (hc _ _ _ _ _ _ h) | exact h
  | ishl => obtain ⟨rfl, h⟩ := h; unfold si2 at h; split at h <;> first | exact w_ishl hd (hc _ _ _ _ _ _ h) | exact h
  | ishr => obtain ⟨rfl, h⟩ := h; unfold si2 at h; split at h <;> first | exact w_ishr hd (hc _ _ _ _ _ _ h) | exact h
  | iushr => obtain ⟨rfl, h⟩ := h; unfold si2 at h; split at h <;> first | exact w_iushr hd (hc _ _ _ _ _ _ h) | exact h
  | i2l => obtain ⟨rfl, h⟩ := h; unfold si1 at h; split at h <;> first | exact w_i2l hd (hc _ _ _ _ _ _ h) | exact h
  | i2b => obtain ⟨rfl, h⟩ := h; unfold si1 at h; split at h <;> first | exact w_i2b hd (hc _ _ _ _ _ _ h) | exact h
  | i2c => obtain ⟨rfl, h⟩ := h; unfold si1 at h; split at h <;> first | exact w_i2c hd (hc _ _ _ _ _ _ h) | exact h
  | i2f => obtain ⟨rfl, h⟩ := h; unfold si1 at h; split at h <;> first | exact w_i2f hd (hc _ _ _ _ _ _ h) | exact h
  | f2i => obtain ⟨rfl, h⟩ := h; unfold sf1 at h; split at h <;> first | exact w_f2i hd (hc _ _ _ _ _ _ h) | exact h
  | fmul => obtain ⟨rfl, h⟩ := h; unfold sf2 at h; split at h <;> first | exact w_fmul hd h.1 (hc _ _ _ _ _ _ h.2) | exact h
  | fcmp op => obtain ⟨rfl, h⟩ := h; unfold sf2 at h; split at h <;> first | exact w_fcmp hd (hc _ _ _ _ _ _ h) | exact h
  | lcmp => obtain ⟨rfl, h⟩ := h; unfold sl2 at h; split at h <;> first | exact w_lcmp hd (hc _ _ _ _ _ _ h) | exact h
  | dup => obtain ⟨rfl, h⟩ := h; unfold sv1 at h; split at h <;> first | exact w_dup hd h.1 (hc _ _ _ _ _ _ h.2) | exact h
  | dup_x1 => obtain ⟨rfl, h⟩ := h; unfold sv2 at h; split at h <;> first | exact w_dup_x1 hd h.1 h.2.1 (hc _ _ _ _ _ _ h.2.2) | exact h
  | dup_x2 => obtain ⟨rfl, h⟩ := h; unfold sv3 at h; split at h <;> first | exact w_dup_x2 hd h.1 h.2.1 h.2.2.1 (hc _ _ _ _ _ _ h.2.2.2) | exact h
  | dup2 => obtain ⟨rfl, h⟩ := h; unfold sv2 at h; split at h <;> first | exact w_dup2 hd h.1 h.2.1 (hc _ _ _ _ _ _ h.2.2) | exact h
  | pop => obtain ⟨rfl, h⟩ := h; unfold sv1 at h; split at h <;> first | exact w_pop hd h.1 (hc _ _ _ _ _ _ h.2) | exact h
  | goto off => obtain ⟨rfl, h⟩ := h; exact w_goto hd (jmp_ok hc h).1 (jmp_ok hc h).2
  | if_icmp cd off => obtain ⟨rfl, hj, h⟩ := h; unfold si2 at h; split at h <;> first | exact w_icmp hd (jok_t hj) (fun z => hc _ _ _ _ _ _ (h.1 z)) (fun z => hc _ _ _ _ _ _ (h.2 z)) | exact h
  | ifCond cd off => obtain ⟨rfl, hj, h⟩ := h; unfold si1 at h; split at h <;> first | exact w_if hd (jok_t hj) (fun z => hc _ _ _ _ _ _ (h.1 z)) (fun z => hc _ _ _ _ _ _ (h.2 z)) | exact h
  | if_acmp cd off =>
    cases cd with
    | eq => obtain ⟨rfl, hj, h⟩ := h; unfold sv2 at h; split at h <;> first | exact w_acmp hd (jok_t hj) h.1 h.2.1 (fun z => hc _ _ _ _ _ _ (h.2.2.1 z)) (fun z => hc _ _ _ _ _ _ (h.2.2.2 z)) | exact h
    | ne => obtain ⟨rfl, hj, h⟩ := h; unfold sv2 at h; split at h <;> first | exact w_acmp hd (jok_t hj) h.1 h.2.1 (fun z => hc _ _ _ _ _ _ (h.2.2.1 z)) (fun z => hc _ _ _ _ _ _ (h.2.2.2 (Classical.not_not.mp z))) | exact h
  | ifnull off => obtain ⟨rfl, hj, h⟩ := h; unfold sv1 at h; split at h <;> first | exact w_ifnull hd (jok_t hj) h.1 (fun z => hc _ _ _ _ _ _ (h.2.1 z)) (fun z => hc _ _ _ _ _ _ (h.2.2 z)) | exact h
  | ifnonnull off => obtain ⟨rfl, hj, h⟩ := h; unfold sv1 at h; split at h <;> first | exact w_ifnonnull hd (jok_t hj) h.1 (fun z => hc _ _ _ _ _ _ (h.2.1 z)) (fun z => hc _ _ _ _ _ _ (h.2.2 z)) | exact h
  | tableswitch dflt lo hi offs =>
    obtain ⟨hh, h⟩ := h
    unfold si1 at h
    split at h
    · next x r =>
      by_cases q : x.toInt < lo ∨ hi < x.toInt
      · exact w_tableOut hd q (jok_t (h.1 q).1) (hc _ _ _ _ _ _ (h.1 q).2)
      · have q1 : ¬ x.toInt < lo := fun z => q (Or.inl z)
        have q2 : ¬ hi < x.toInt := fun z => q (Or.inr z)
        have hlt : (x.toInt - lo).toNat < offs.toList.length := by omega
        have ho := List.getElem?_eq_getElem hlt
        have h3 := tsw_ok x.toInt offs.toList lo h.2 (by omega) _ ho
        exact w_tableIn hd q1 q2 (by rw [← Array.getElem?_toList]; exact ho) (jok_t h3.1) (hc _ _ _ _ _ _ h3.2)
    · exact h
  | lookupswitch dflt ps =>
    obtain ⟨hh, h⟩ := h
    unfold si1 at h
    split at h
    · next x r =>
      have h3 := lsw_ok x.toInt dflt ps.toList h
      exact w_lookup hd hh rfl (jok_t h3.1) (hc _ _ _ _ _ _ h3.2)
    · exact h
  | arraylength =>
    obtain ⟨rfl, h⟩ := h; unfold sr1 at h; split at h
    · next a r =>
      rcases h.1 with q | q
      · exact w_alen (i := gc G a - 101) (by omega) (Or.inl (by omega)) hd (hc _ _ _ _ _ _ h.2)
      · exact w_alen (i := gc G a - 301) (by omega) (Or.inr (by omega)) hd (hc _ _ _ _ _ _ h.2)
    · exact h
  | iaload => obtain ⟨rfl, h⟩ := h; unfold sai at h; split at h <;> first | exact w_iald h.1 h.2.1 h.2.2.1 hd (hc _ _ _ _ _ _ h.2.2.2) | exact h
  | baload => obtain ⟨rfl, h⟩ := h; unfold sai at h; split at h <;> first | exact w_bald h.1 h.2.1 h.2.2.1 hd (hc _ _ _ _ _ _ h.2.2.2) | exact h
  | aaload =>
    obtain ⟨rfl, h⟩ := h; unfold sai at h; split at h
    · next j a r =>
      rcases h.1 with q | q
      · exact w_aald (i := gc G a - 101) (by omega) (Or.inl (by omega)) h.2.1 h.2.2.1 hd (hc _ _ _ _ _ _ h.2.2.2)
      · exact w_aald (i := gc G a - 301) (by omega) (Or.inr (by omega)) h.2.1 h.2.2.1 hd (hc _ _ _ _ _ _ h.2.2.2)
    · exact h
  | iastore =>
    obtain ⟨rfl, h⟩ := h; unfold svai at h; split at h
    · obtain ⟨h1, h2, h3, ⟨x, rfl⟩, h4⟩ := h
      exact w_iast h1 h2 h3 hd (hc _ _ _ _ _ _ h4)
    · exact h
  | bastore =>
    obtain ⟨rfl, h⟩ := h; unfold svai at h; split at h
    · obtain ⟨h1, h2, h3, ⟨x, rfl⟩, h4⟩ := h
      exact w_bast h1 h2 h3 hd (hc _ _ _ _ _ _ h4)
    · exact h
  | aastore =>
    obtain ⟨rfl, h⟩ := h; unfold svai at h; split at h
    · next v j a r =>
      obtain ⟨h1, h2, h3, h5, h4⟩ := h
      have hi : gc G a - 101 = 3 ∨ gc G a - 101 = 4 := by omega
      rcases h5 with rfl | ⟨b, rfl, hS⟩
      · exact w_aastN hi (by omega) h2 h3 hd (hc _ _ _ _ _ _ h4)
      · exact w_aast hS (by omega) h2 h3 hd (hc _ _ _ _ _ _ h4)
    · exact h
  | getfield idx =>
    obtain ⟨rfl, h⟩ := h; unfold sr1 at h; split at h
    · unfold oe at h; split at h
      · next j hj => exact w_getf (by rw [hY]; exact flk_ok hj) hd (hc _ _ _ _ _ _ h)
      · exact h
    · exact h
  | putfield idx =>
    obtain ⟨rfl, h⟩ := h; unfold svr at h; split at h
    · unfold oe at h; split at h
      · next q hq => exact w_putf (by rw [hY]; exact plk_ok hq) h.1 h.2.1 h.2.2.1 hd (hc _ _ _ _ _ _ h.2.2.2)
      · exact h
    · exact h
  | getstatic idx =>
    obtain ⟨rfl, h⟩ := h; unfold oe at h; split at h
    · next i hi => exact w_gets (by rw [hY]; exact slk_ok hi) hd (hc _ _ _ _ _ _ h)
    · exact h
  | new idx =>
    obtain ⟨rfl, h⟩ := h; unfold oe at h; split at h
    · next i hi => exact w_new (by rw [hY]; exact nlk_ok hi) h.1 h.2.1 hd (hc _ _ _ _ _ _ h.2.2)
    · exact h
  | newarray at0 =>
    obtain ⟨rfl, h⟩ := h; unfold si1 at h; split at h
    · obtain ⟨h1, h2, h3, h4, h⟩ := h
      cases at0 with
      | byte => exact w_newa (Or.inl ⟨rfl, rfl⟩) h1 h2 h3 h4 hd (hc _ _ _ _ _ _ h)
      | int => exact w_newa (Or.inr (Or.inl ⟨rfl, rfl⟩)) h1 h2 h3 h4 hd (hc _ _ _ _ _ _ h)
      | boolean => exact w_newa (Or.inr (Or.inr ⟨rfl, rfl⟩)) h1 h2 h3 h4 hd (hc _ _ _ _ _ _ h)
      | _ => exact h
    · exact h
  | anewarray idx =>
    obtain ⟨rfl, h⟩ := h; unfold si1 at h; split at h
    · obtain ⟨h1, h2, h3, h4, h⟩ := h
      unfold oe at h; split at h
      · next i hi => exact w_anew (by rw [hY]; exact alk_ok hi) h1 h2 h3 h4 hd (hc _ _ _ _ _ _ h)
      · exact h
    · exact h
  | checkcast idx =>
    obtain ⟨rfl, h⟩ := h; unfold sv1 at h; split at h
    · obtain ⟨h1, h⟩ := h
      rcases h1 with rfl | ⟨a, rfl, h1⟩
      · exact w_castN hd (hc _ _ _ _ _ _ h)
      · exact w_cast (by rw [hY]; exact klk_ok h1) hd (hc _ _ _ _ _ _ h)
    · exact h
  | instanceof idx =>
    obtain ⟨rfl, h⟩ := h; unfold sr1 at h; split at h
    · exact w_inst (by rw [hY]; exact ilk_ok h.1) hd (hc _ _ _ _ _ _ h.2)
    · exact h
  | ldc idx =>
    obtain ⟨rfl, h⟩ := h; unfold oe at h; split at h
    · next v hv => exact w_ldc (by rw [hY]; exact dlk_ok hv) hd (hc _ _ _ _ _ _ h)
    · split at h
      · next v hv => exact w_ldcf (by rw [hY]; exact fck_ok hv) hd (hc _ _ _ _ _ _ h)
      · exact h
  | ldc2_w idx =>
    obtain ⟨rfl, h⟩ := h; unfold oe at h; split at h
    · next v hv => exact w_ldc2 (by rw [hY]; exact d2k_ok hv) hd (hc _ _ _ _ _ _ h)
    · exact h
  | invokestatic idx =>
    obtain ⟨rfl, h⟩ := h; unfold oe at h; split at h
    · next q hq => exact inv_ok hY hd (cls_ok hq) (Or.inl rfl) h
    · exact h
  | invokespecial idx =>
    obtain ⟨rfl, h⟩ := h; unfold oe at h; split at h
    · next q hq =>
      unfold rcv at h; split at h
      · next b hb =>
        obtain ⟨h1, h2, h3⟩ := h
        exact inv_ok hY hd (cli_ok hq _ h2) (Or.inr ⟨h1, b, hb, rfl⟩) h3
      · exact h
    · exact vinv_ok hY hd h
  | invokevirtual idx => exact vinv_ok hY hd h
  | invokeinterface idx cnt => exact vinv_ok hY hd h
  | return_ => obtain ⟨rfl, rfl, h1, h⟩ := h; exact w_ret h1 hd h
  | ireturn =>
    obtain ⟨rfl, h⟩ := h; unfold si1 at h; split at h
    · obtain ⟨rfl, h⟩ := h
      unfold oe at h; split at h
      · next ty hty => exact w_iret hty h.1 hd h.2
      · exact h
    · exact h
  | areturn =>
    obtain ⟨rfl, h⟩ := h; unfold sv1 at h; split at h
    · obtain ⟨rfl, h1, h2, h⟩ := h
      exact w_aret h1 h2 hd h
    · exact h
  | _ => exact h
theorem exS {X : gX} {Y : gM} {d : Nat} {Q : Option Value → gH → Prop} (hY : (my Y).cls = onm (mo Y)) : ∀ (f k n : Nat) (G : gH) (pc : Nat) (l : List (Option Value)) (st : List Value), ex X Y d Q f k n G pc l st → Wp X Y d Q k n G pc l st := by
  intro f
  induction f with
  | zero => intro k n G pc l st h; exact h
  | succ f ih =>
    intro k n G pc l st h
    unfold ex at h
    split at h
    · next q hq => exact stp_ok hY ih hq h
    · exact h
/-- ex with a cut: it stops where ct is come to (a loop's head), the first step apart -/
def exc (X : gX) (Y : gM) (d : Nat) (Q : Option Value → gH → Prop) (ct : Nat) : Nat → Nat → Nat → gH → Nat → List (Option Value) → List Value → Prop
  | 0, k, n, G, pc, l, st => Wp X Y d Q k n G pc l st
  | f + 1, k, n, G, pc, l, st => if pc = ct then Wp X Y d Q k n G pc l st else match decode (mc Y) pc with
    | .ok q => stp X Y d Q (exc X Y d Q ct f) k n G pc l st q.1 q.2
    | .error _ => Wp X Y d Q k n G pc l st
def ex1 (X : gX) (Y : gM) (d : Nat) (Q : Option Value → gH → Prop) (ct f k n : Nat) (G : gH) (pc : Nat) (l : List (Option Value)) (st : List Value) : Prop := match decode (mc Y) pc with
    | .ok q => stp X Y d Q (exc X Y d Q ct f) k n G pc l st q.1 q.2
    | .error _ => Wp X Y d Q k n G pc l st
theorem exc_ok {X : gX} {Y : gM} {d : Nat} {Q : Option Value → gH → Prop} {ct : Nat} (hY : (my Y).cls = onm (mo Y)) : ∀ (f k n : Nat) (G : gH) (pc : Nat) (l : List (Option Value)) (st : List Value), exc X Y d Q ct f k n G pc l st → Wp X Y d Q k n G pc l st := by
  intro f
  induction f with
  | zero => intro k n G pc l st h; exact h
  | succ f ih =>
    intro k n G pc l st h
    unfold exc at h
    split at h
    · exact h
    · split at h
      · next q hq => exact stp_ok hY ih hq h
      · exact h
theorem excS {X : gX} {Y : gM} {d : Nat} {Q : Option Value → gH → Prop} (hY : (my Y).cls = onm (mo Y)) (ct f k n : Nat) (G : gH) (pc : Nat) (l : List (Option Value)) (st : List Value) (h : ex1 X Y d Q ct f k n G pc l st) : Wp X Y d Q k n G pc l st := by
  unfold ex1 at h
  split at h
  · next q hq => exact stp_ok hY (exc_ok hY f) hq h
  · exact h
