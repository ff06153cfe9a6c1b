/-! the equations by which simp runs ex: printed by tools/gen_simp.py -/
set_option maxRecDepth 100000
section
variable {X : gX} {Y : gM} {d : Nat} {Q : Option Value → gH → Prop} {c : Nat → Nat → gH → Nat → List (Option Value) → List Value → Prop} {k n : Nat} {G : gH} {pc : Nat} {l : List (Option Value)} {st : List Value} {z : Nat}
theorem sq_iconst {v : Int} : stp X Y d Q c k n G pc l st (.iconst v) z = (z = 1 ∧ c k n G (pc + 1) l (.int (iI v) :: st)) := rfl
theorem sq_bipush {v : Int} : stp X Y d Q c k n G pc l st (.bipush v) z = (z = 2 ∧ (-128 ≤ v ∧ v < 128) ∧ c k n G (pc + 2) l (.int (iI v) :: st)) := rfl
theorem sq_sipush {v : Int} : stp X Y d Q c k n G pc l st (.sipush v) z = (z = 3 ∧ (-32768 ≤ v ∧ v < 32768) ∧ c k n G (pc + 3) l (.int (iI v) :: st)) := rfl
theorem sq_lconst {v : Fin 2} : stp X Y d Q c k n G pc l st (.lconst v) z = (z = 1 ∧ c k n G (pc + 1) l (.long (lI (v.val : Int)) :: st)) := rfl
theorem sq_aconst_null : stp X Y d Q c k n G pc l st (.aconst_null) z = (z = 1 ∧ c k n G (pc + 1) l (.null :: st)) := rfl
theorem sq_iload {i : Nat} : stp X Y d Q c k n G pc l st (.iload i) z = (z = 2 ∧ li l[i]? (Wp X Y d Q k n G pc l st) fun x => c k n G (pc + 2) l (.int x :: st)) := rfl
theorem sq_iload_n {i : Fin 4} : stp X Y d Q c k n G pc l st (.iload_n i) z = (z = 1 ∧ li l[i.val]? (Wp X Y d Q k n G pc l st) fun x => c k n G (pc + 1) l (.int x :: st)) := rfl
theorem sq_lload {i : Nat} : stp X Y d Q c k n G pc l st (.lload i) z = (z = 2 ∧ ll l[i]? (Wp X Y d Q k n G pc l st) fun x => c k n G (pc + 2) l (.long x :: st)) := rfl
theorem sq_lload_n {i : Fin 4} : stp X Y d Q c k n G pc l st (.lload_n i) z = (z = 1 ∧ ll l[i.val]? (Wp X Y d Q k n G pc l st) fun x => c k n G (pc + 1) l (.long x :: st)) := rfl
theorem sq_fload {i : Nat} : stp X Y d Q c k n G pc l st (.fload i) z = (z = 2 ∧ lf l[i]? (Wp X Y d Q k n G pc l st) fun x => c k n G (pc + 2) l (.float x :: st)) := rfl
theorem sq_fload_n {i : Fin 4} : stp X Y d Q c k n G pc l st (.fload_n i) z = (z = 1 ∧ lf l[i.val]? (Wp X Y d Q k n G pc l st) fun x => c k n G (pc + 1) l (.float x :: st)) := rfl
theorem sq_aload {i : Nat} : stp X Y d Q c k n G pc l st (.aload i) z = (z = 2 ∧ lv l[i]? (Wp X Y d Q k n G pc l st) fun v => rfOK v ∧ c k n G (pc + 2) l (v :: st)) := rfl
theorem sq_aload_n {i : Fin 4} : stp X Y d Q c k n G pc l st (.aload_n i) z = (z = 1 ∧ lv l[i.val]? (Wp X Y d Q k n G pc l st) fun v => rfOK v ∧ c k n G (pc + 1) l (v :: st)) := rfl
theorem sq_istore {i : Nat} : stp X Y d Q c k n G pc l st (.istore i) z = (z = 2 ∧ i < mL Y ∧ si1 st (Wp X Y d Q k n G pc l st) fun x r => c k n G (pc + 2) (lset l i (.int x)) r) := rfl
theorem sq_istore_n {i : Fin 4} : stp X Y d Q c k n G pc l st (.istore_n i) z = (z = 1 ∧ i.val < mL Y ∧ si1 st (Wp X Y d Q k n G pc l st) fun x r => c k n G (pc + 1) (lset l i.val (.int x)) r) := rfl
theorem sq_fstore {i : Nat} : stp X Y d Q c k n G pc l st (.fstore i) z = (z = 2 ∧ i < mL Y ∧ sf1 st (Wp X Y d Q k n G pc l st) fun x r => c k n G (pc + 2) (lset l i (.float x)) r) := rfl
theorem sq_astore {i : Nat} : stp X Y d Q c k n G pc l st (.astore i) z = (z = 2 ∧ i < mL Y ∧ sv1 st (Wp X Y d Q k n G pc l st) fun v r => rfOK v ∧ c k n G (pc + 2) (lset l i v) r) := rfl
theorem sq_astore_n {i : Fin 4} : stp X Y d Q c k n G pc l st (.astore_n i) z = (z = 1 ∧ i.val < mL Y ∧ sv1 st (Wp X Y d Q k n G pc l st) fun v r => rfOK v ∧ c k n G (pc + 1) (lset l i.val v) r) := rfl
theorem sq_iinc {i : Nat} {v : Int} : stp X Y d Q c k n G pc l st (.iinc i v) z = (z = 3 ∧ i < mL Y ∧ li l[i]? (Wp X Y d Q k n G pc l st) fun x => c k n G (pc + 3) (lset l i (.int (x + iI v))) st) := rfl
theorem sq_iadd : stp X Y d Q c k n G pc l st (.iadd) z = (z = 1 ∧ si2 st (Wp X Y d Q k n G pc l st) fun x y r => c k n G (pc + 1) l (.int (x + y) :: r)) := rfl
theorem sq_isub : stp X Y d Q c k n G pc l st (.isub) z = (z = 1 ∧ si2 st (Wp X Y d Q k n G pc l st) fun x y r => c k n G (pc + 1) l (.int (x - y) :: r)) := rfl
theorem sq_imul : stp X Y d Q c k n G pc l st (.imul) z = (z = 1 ∧ si2 st (Wp X Y d Q k n G pc l st) fun x y r => c k n G (pc + 1) l (.int (x * y) :: r)) := rfl
theorem sq_idiv : stp X Y d Q c k n G pc l st (.idiv) z = (z = 1 ∧ si2 st (Wp X Y d Q k n G pc l st) fun x y r => y.toInt ≠ 0 ∧ c k n G (pc + 1) l (.int (x / y) :: r)) := rfl
theorem sq_irem : stp X Y d Q c k n G pc l st (.irem) z = (z = 1 ∧ si2 st (Wp X Y d Q k n G pc l st) fun x y r => y.toInt ≠ 0 ∧ c k n G (pc + 1) l (.int (irm x y) :: r)) := rfl
theorem sq_ineg : stp X Y d Q c k n G pc l st (.ineg) z = (z = 1 ∧ si1 st (Wp X Y d Q k n G pc l st) fun x r => c k n G (pc + 1) l (.int (-x) :: r)) := rfl
theorem sq_iand : stp X Y d Q c k n G pc l st (.iand) z = (z = 1 ∧ si2 st (Wp X Y d Q k n G pc l st) fun x y r => c k n G (pc + 1) l (.int (x &&& y) :: r)) := rfl
theorem sq_ior : stp X Y d Q c k n G pc l st (.ior) z = (z = 1 ∧ si2 st (Wp X Y d Q k n G pc l st) fun x y r => c k n G (pc + 1) l (.int (x ||| y) :: r)) := rfl
theorem sq_ixor : stp X Y d Q c k n G pc l st (.ixor) z = (z = 1 ∧ si2 st (Wp X Y d Q k n G pc l st) fun x y r => c k n G (pc + 1) l (.int (x ^^^ y) :: r)) := rfl
theorem sq_ishl : stp X Y d Q c k n G pc l st (.ishl) z = (z = 1 ∧ si2 st (Wp X Y d Q k n G pc l st) fun x y r => c k n G (pc + 1) l (.int (x <<< (y &&& 31)) :: r)) := rfl
theorem sq_ishr : stp X Y d Q c k n G pc l st (.ishr) z = (z = 1 ∧ si2 st (Wp X Y d Q k n G pc l st) fun x y r => c k n G (pc + 1) l (.int (x >>> (y &&& 31)) :: r)) := rfl
theorem sq_iushr : stp X Y d Q c k n G pc l st (.iushr) z = (z = 1 ∧ si2 st (Wp X Y d Q k n G pc l st) fun x y r => c k n G (pc + 1) l (.int ((x.toUInt32 >>> (y.toUInt32 &&& Int32.toUInt32 31)).toInt32) :: r)) := rfl
theorem sq_i2l : stp X Y d Q c k n G pc l st (.i2l) z = (z = 1 ∧ si1 st (Wp X Y d Q k n G pc l st) fun x r => c k n G (pc + 1) l (.long (lI x.toInt) :: r)) := rfl
theorem sq_i2b : stp X Y d Q c k n G pc l st (.i2b) z = (z = 1 ∧ si1 st (Wp X Y d Q k n G pc l st) fun x r => c k n G (pc + 1) l (.int x.toInt8.toInt32 :: r)) := rfl
theorem sq_i2c : stp X Y d Q c k n G pc l st (.i2c) z = (z = 1 ∧ si1 st (Wp X Y d Q k n G pc l st) fun x r => c k n G (pc + 1) l (.int (x.toUInt32 % 65536).toInt32 :: r)) := rfl
theorem sq_i2f : stp X Y d Q c k n G pc l st (.i2f) z = (z = 1 ∧ si1 st (Wp X Y d Q k n G pc l st) fun x r => c k n G (pc + 1) l (.float (FP.i2f x) :: r)) := rfl
theorem sq_f2i : stp X Y d Q c k n G pc l st (.f2i) z = (z = 1 ∧ sf1 st (Wp X Y d Q k n G pc l st) fun x r => c k n G (pc + 1) l (.int (FP.f2i x) :: r)) := rfl
theorem sq_fmul : stp X Y d Q c k n G pc l st (.fmul) z = (z = 1 ∧ sf2 st (Wp X Y d Q k n G pc l st) fun x y r => vf_n32 (FP.fmul x y) ∧ c k n G (pc + 1) l (.float (FP.fmul x y) :: r)) := rfl
theorem sq_fcmp {op : CmpOp} : stp X Y d Q c k n G pc l st (.fcmp op) z = (z = 1 ∧ sf2 st (Wp X Y d Q k n G pc l st) fun x y r => c k n G (pc + 1) l (.int (Op.cmpValue (FP.fcmp x y) op) :: r)) := rfl
theorem sq_lcmp : stp X Y d Q c k n G pc l st (.lcmp) z = (z = 1 ∧ sl2 st (Wp X Y d Q k n G pc l st) fun x y r => c k n G (pc + 1) l (.int (lg_cmp x y) :: r)) := rfl
theorem sq_dup : stp X Y d Q c k n G pc l st (.dup) z = (z = 1 ∧ sv1 st (Wp X Y d Q k n G pc l st) fun v r => isC2 v = false ∧ c k n G (pc + 1) l (v :: v :: r)) := rfl
theorem sq_dup_x1 : stp X Y d Q c k n G pc l st (.dup_x1) z = (z = 1 ∧ sv2 st (Wp X Y d Q k n G pc l st) fun v w r => isC2 v = false ∧ isC2 w = false ∧ c k n G (pc + 1) l (v :: w :: v :: r)) := rfl
theorem sq_dup_x2 : stp X Y d Q c k n G pc l st (.dup_x2) z = (z = 1 ∧ sv3 st (Wp X Y d Q k n G pc l st) fun v w u r => isC2 v = false ∧ isC2 w = false ∧ isC2 u = false ∧ c k n G (pc + 1) l (v :: w :: u :: v :: r)) := rfl
theorem sq_dup2 : stp X Y d Q c k n G pc l st (.dup2) z = (z = 1 ∧ sv2 st (Wp X Y d Q k n G pc l st) fun v w r => isC2 v = false ∧ isC2 w = false ∧ c k n G (pc + 1) l (v :: w :: v :: w :: r)) := rfl
theorem sq_pop : stp X Y d Q c k n G pc l st (.pop) z = (z = 1 ∧ sv1 st (Wp X Y d Q k n G pc l st) fun v r => isC2 v = false ∧ c k n G (pc + 1) l r) := rfl
theorem sq_goto {off : Int} : stp X Y d Q c k n G pc l st (.goto off) z = (z = 3 ∧ jok pc off ∧ jmp c k n G pc off l st) := rfl
theorem sq_if_icmp {cd : ClassFile.Cond} {off : Int} : stp X Y d Q c k n G pc l st (.if_icmp cd off) z = (z = 3 ∧ jok pc off ∧ si2 st (Wp X Y d Q k n G pc l st) fun x y r => (cnd cd x y → jmp c k n G pc off l r) ∧ (¬ cnd cd x y → c k n G (pc + 3) l r)) := rfl
theorem sq_ifCond {cd : ClassFile.Cond} {off : Int} : stp X Y d Q c k n G pc l st (.ifCond cd off) z = (z = 3 ∧ jok pc off ∧ si1 st (Wp X Y d Q k n G pc l st) fun x r => (cnd cd x 0 → jmp c k n G pc off l r) ∧ (¬ cnd cd x 0 → c k n G (pc + 3) l r)) := rfl
theorem sq_if_acmp_eq {off : Int} : stp X Y d Q c k n G pc l st (.if_acmp .eq off) z = (z = 3 ∧ jok pc off ∧ sv2 st (Wp X Y d Q k n G pc l st) fun w v r => rfOK v ∧ rfOK w ∧ (v = w → jmp c k n G pc off l r) ∧ (¬ v = w → c k n G (pc + 3) l r)) := rfl
theorem sq_if_acmp_ne {off : Int} : stp X Y d Q c k n G pc l st (.if_acmp .ne off) z = (z = 3 ∧ jok pc off ∧ sv2 st (Wp X Y d Q k n G pc l st) fun w v r => rfOK v ∧ rfOK w ∧ (¬ v = w → jmp c k n G pc off l r) ∧ (v = w → c k n G (pc + 3) l r)) := rfl
theorem sq_ifnull {off : Int} : stp X Y d Q c k n G pc l st (.ifnull off) z = (z = 3 ∧ jok pc off ∧ sv1 st (Wp X Y d Q k n G pc l st) fun v r => rfOK v ∧ (v = .null → jmp c k n G pc off l r) ∧ (v ≠ .null → c k n G (pc + 3) l r)) := rfl
theorem sq_ifnonnull {off : Int} : stp X Y d Q c k n G pc l st (.ifnonnull off) z = (z = 3 ∧ jok pc off ∧ sv1 st (Wp X Y d Q k n G pc l st) fun v r => rfOK v ∧ (v ≠ .null → jmp c k n G pc off l r) ∧ (v = .null → c k n G (pc + 3) l r)) := rfl
theorem sq_tableswitch {dflt : Int} {lo : Int} {hi : Int} {offs : Array Int} : stp X Y d Q c k n G pc l st (.tableswitch dflt lo hi offs) z = (hi = lo + offs.toList.length - 1 ∧ si1 st (Wp X Y d Q k n G pc l st) fun x r => ((x.toInt < lo ∨ hi < x.toInt) → jok pc dflt ∧ jmp c k n G pc dflt l r) ∧ tsw c k n G pc l r x.toInt lo offs.toList) := rfl
theorem sq_lookupswitch {dflt : Int} {ps : Array (Int × Int)} : stp X Y d Q c k n G pc l st (.lookupswitch dflt ps) z = ((ps.toList.zip (ps.toList.drop 1)).all (fun (a, next) => a.1 < next.1) = true ∧ si1 st (Wp X Y d Q k n G pc l st) fun x r => lsw c k n G pc l r x.toInt dflt ps.toList) := rfl
theorem sq_arraylength : stp X Y d Q c k n G pc l st (.arraylength) z = (z = 1 ∧ sr1 st (Wp X Y d Q k n G pc l st) fun a r => ((101 ≤ gc G a ∧ gc G a < 107) ∨ (301 ≤ gc G a ∧ gc G a < 307)) ∧ c k n G (pc + 1) l (.int (iI (gl G a)) :: r)) := rfl
theorem sq_iaload : stp X Y d Q c k n G pc l st (.iaload) z = (z = 1 ∧ sai st (Wp X Y d Q k n G pc l st) fun j a r => (gc G a = 102 ∨ gc G a = 302) ∧ 0 ≤ j.toInt ∧ j.toInt.toNat < gl G a ∧ c k n G (pc + 1) l (gm G a j.toInt.toNat :: r)) := rfl
theorem sq_baload : stp X Y d Q c k n G pc l st (.baload) z = (z = 1 ∧ sai st (Wp X Y d Q k n G pc l st) fun j a r => ((gc G a = 101 ∨ gc G a = 301) ∨ gc G a = 103 ∨ gc G a = 303) ∧ 0 ≤ j.toInt ∧ j.toInt.toNat < gl G a ∧ c k n G (pc + 1) l (gm G a j.toInt.toNat :: r)) := rfl
theorem sq_aaload : stp X Y d Q c k n G pc l st (.aaload) z = (z = 1 ∧ sai st (Wp X Y d Q k n G pc l st) fun j a r => ((104 ≤ gc G a ∧ gc G a < 107) ∨ (304 ≤ gc G a ∧ gc G a < 307)) ∧ 0 ≤ j.toInt ∧ j.toInt.toNat < gl G a ∧ c k n G (pc + 1) l (gm G a j.toInt.toNat :: r)) := rfl
theorem sq_iastore : stp X Y d Q c k n G pc l st (.iastore) z = (z = 1 ∧ svai st (Wp X Y d Q k n G pc l st) fun v j a r => gc G a = 102 ∧ 0 ≤ j.toInt ∧ j.toInt.toNat < gl G a ∧ (∃ x, v = .int x) ∧ c k n (gput G a j.toInt.toNat v) (pc + 1) l r) := rfl
theorem sq_bastore : stp X Y d Q c k n G pc l st (.bastore) z = (z = 1 ∧ svai st (Wp X Y d Q k n G pc l st) fun v j a r => (gc G a = 101 ∧ narrow .byte v = v ∨ gc G a = 103 ∧ narrow .boolean v = v) ∧ 0 ≤ j.toInt ∧ j.toInt.toNat < gl G a ∧ (∃ x, v = .int x) ∧ c k n (gput G a j.toInt.toNat v) (pc + 1) l r) := rfl
theorem sq_aastore : stp X Y d Q c k n G pc l st (.aastore) z = (z = 1 ∧ svai st (Wp X Y d Q k n G pc l st) fun v j a r => (gc G a = 104 ∨ gc G a = 105) ∧ 0 ≤ j.toInt ∧ j.toInt.toNat < gl G a ∧ (v = .null ∨ ∃ b, v = .ref b ∧ SG (gc G a - 101) (gc G b)) ∧ c k n (gput G a j.toInt.toNat v) (pc + 1) l r) := rfl
theorem sq_getfield {idx : Nat} : stp X Y d Q c k n G pc l st (.getfield idx) z = (z = 3 ∧ sr1 st (Wp X Y d Q k n G pc l st) fun a r => oe (flk (mo Y) idx (gc G a)) (Wp X Y d Q k n G pc l st) fun j => c k n G (pc + 3) l (gm G a j :: r)) := rfl
theorem sq_putfield {idx : Nat} : stp X Y d Q c k n G pc l st (.putfield idx) z = (z = 3 ∧ svr st (Wp X Y d Q k n G pc l st) fun v a r => oe (plk (mo Y) idx (gc G a)) (Wp X Y d Q k n G pc l st) fun q => (q.2.2 = true → (my Y).name = "<init>") ∧ narrow q.2.1 v = v ∧ fits q.2.1 v = true ∧ c k n (gput G a q.1 v) (pc + 3) l r) := rfl
theorem sq_getstatic {idx : Nat} : stp X Y d Q c k n G pc l st (.getstatic idx) z = (z = 3 ∧ oe (slk (mo Y) idx) (Wp X Y d Q k n G pc l st) fun i => c k n G (pc + 3) l (xs X i :: st)) := rfl
theorem sq_new {idx : Nat} : stp X Y d Q c k n G pc l st (.new idx) z = (z = 3 ∧ oe (nlk (mo Y) idx) (Wp X Y d Q k n G pc l st) fun i => 1 ≤ k ∧ gNf i ≤ n ∧ c (k - 1) (n - gNf i) (gnew G (i + 1) 0 (vp_V (gDf i))) (pc + 3) l (.ref (gs G) :: st)) := rfl
theorem sq_newarray {at0 : ArrayType} : stp X Y d Q c k n G pc l st (.newarray at0) z = (z = 2 ∧ si1 st (Wp X Y d Q k n G pc l st) fun x r => 0 ≤ x.toInt ∧ x.toInt ≤ 100000 ∧ 1 ≤ k ∧ x.toInt.toNat ≤ n ∧ oe (match at0 with | .byte => some 0 | .int => some 1 | .boolean => some 2 | _ => none) (Wp X Y d Q k n G pc l st) fun i => c (k - 1) (n - x.toInt.toNat) (gnew G (i + 101) x.toInt.toNat (fun _ => .int 0)) (pc + 2) l (.ref (gs G) :: r)) := rfl
theorem sq_anewarray {idx : Nat} : stp X Y d Q c k n G pc l st (.anewarray idx) z = (z = 3 ∧ si1 st (Wp X Y d Q k n G pc l st) fun x r => 0 ≤ x.toInt ∧ x.toInt ≤ 100000 ∧ 1 ≤ k ∧ x.toInt.toNat ≤ n ∧ oe (alk (mo Y) idx) (Wp X Y d Q k n G pc l st) fun i => c (k - 1) (n - x.toInt.toNat) (gnew G (i + 101) x.toInt.toNat (fun _ => .null)) (pc + 3) l (.ref (gs G) :: r)) := rfl
theorem sq_checkcast {idx : Nat} : stp X Y d Q c k n G pc l st (.checkcast idx) z = (z = 3 ∧ sv1 st (Wp X Y d Q k n G pc l st) fun v r => (v = .null ∨ ∃ a, v = .ref a ∧ klk (mo Y) idx (gc G a) = true) ∧ c k n G (pc + 3) l (v :: r)) := rfl
theorem sq_instanceof {idx : Nat} : stp X Y d Q c k n G pc l st (.instanceof idx) z = (z = 3 ∧ sr1 st (Wp X Y d Q k n G pc l st) fun a r => ilk (mo Y) idx (gc G a) = true ∧ c k n G (pc + 3) l (.int (iI 1) :: r)) := rfl
theorem sq_ldc {idx : Nat} : stp X Y d Q c k n G pc l st (.ldc idx) z = (z = 2 ∧ oe (dlk (mo Y) idx) (oe (fck (mo Y) idx) (Wp X Y d Q k n G pc l st) fun v => c k n G (pc + 2) l (.float v :: st)) fun v => c k n G (pc + 2) l (.int (iI v) :: st)) := rfl
theorem sq_ldc2_w {idx : Nat} : stp X Y d Q c k n G pc l st (.ldc2_w idx) z = (z = 3 ∧ oe (d2k (mo Y) idx) (Wp X Y d Q k n G pc l st) fun v => c k n G (pc + 3) l (.long (lI v) :: st)) := rfl
theorem sq_invokestatic {idx : Nat} : stp X Y d Q c k n G pc l st (.invokestatic idx) z = (z = 3 ∧ oe (cls (mo Y) idx) (Wp X Y d Q k n G pc l st) fun q => inv X Y d Q k n G pc l st q.1 q.2 3) := rfl
theorem sq_invokevirtual {idx : Nat} : stp X Y d Q c k n G pc l st (.invokevirtual idx) z = (vinv X Y d Q k n G pc l st (.invokevirtual idx) z) := rfl
theorem sq_invokeinterface {idx : Nat} {cnt : Nat} : stp X Y d Q c k n G pc l st (.invokeinterface idx cnt) z = (vinv X Y d Q k n G pc l st (.invokeinterface idx cnt) z) := rfl
theorem sq_invokespecial {idx : Nat} : stp X Y d Q c k n G pc l st (.invokespecial idx) z = (z = 3 ∧ oe (cli (mo Y) idx) (vinv X Y d Q k n G pc l st (.invokespecial idx) z) fun q => rcv q.1 st (Wp X Y d Q k n G pc l st) fun b => 1 ≤ q.1 ∧ gc G b ≠ 0 ∧ inv X Y d Q k n G pc l st q.1 q.2 3) := rfl
theorem sq_return_ : stp X Y d Q c k n G pc l st (.return_) z = (z = 1 ∧ st = [] ∧ mr Y = none ∧ Q none G) := rfl
theorem sq_ireturn : stp X Y d Q c k n G pc l st (.ireturn) z = (z = 1 ∧ si1 st (Wp X Y d Q k n G pc l st) fun x r => r = [] ∧ oe (mr Y) (Wp X Y d Q k n G pc l st) fun ty => narrow ty (.int x) = .int x ∧ Q (some (.int x)) G) := rfl
theorem sq_areturn : stp X Y d Q c k n G pc l st (.areturn) z = (z = 1 ∧ sv1 st (Wp X Y d Q k n G pc l st) fun v r => r = [] ∧ ((∃ nm, mr Y = some (.object nm)) ∨ ∃ t, mr Y = some (.array t)) ∧ rfOK v ∧ Q (some v) G) := rfl
theorem ex_z : ex X Y d Q 0 k n G pc l st = Wp X Y d Q k n G pc l st := rfl
theorem ex_s {f : Nat} : ex X Y d Q (f + 1) k n G pc l st = (match decode (mc Y) pc with
    | .ok q => stp X Y d Q (ex X Y d Q f) k n G pc l st q.1 q.2
    | .error _ => Wp X Y d Q k n G pc l st) := by unfold ex; rfl
theorem exc_z {ct : Nat} : exc X Y d Q ct 0 k n G pc l st = Wp X Y d Q k n G pc l st := rfl
theorem exc_s {ct f : Nat} : exc X Y d Q ct (f + 1) k n G pc l st = (if pc = ct then Wp X Y d Q k n G pc l st else match decode (mc Y) pc with
    | .ok q => stp X Y d Q (exc X Y d Q ct f) k n G pc l st q.1 q.2
    | .error _ => Wp X Y d Q k n G pc l st) := by unfold exc; rfl
theorem ex1_d {ct f : Nat} : ex1 X Y d Q ct f k n G pc l st = (match decode (mc Y) pc with
    | .ok q => stp X Y d Q (exc X Y d Q ct f) k n G pc l st q.1 q.2
    | .error _ => Wp X Y d Q k n G pc l st) := rfl
theorem eqn_r {a : Nat} : (a = a) = True := by simp
theorem jok_d {off : Int} : jok pc off = (0 ≤ (pc : Int) + off) := rfl
theorem jmp_d {off : Int} : jmp c k n G pc off l st = c k n G ((pc : Int) + off).toNat l st := rfl
theorem inv_d {na mi len : Nat} : inv X Y d Q k n G pc l st na mi len = (na ≤ st.length ∧ (st.drop na).length ≤ 4 ∧ gCall X d (mth mi) ((st.take na).reverse) k n G (fun k n r G => Wp X Y d Q k n G (pc + len) l (r.toList ++ st.drop na))) := rfl
theorem vinv_d {ins : Instr} : vinv X Y d Q k n G pc l st ins z = (oe (nav (mo Y) ins) (Wp X Y d Q k n G pc l st) fun na => 1 ≤ na ∧ rcv na st (Wp X Y d Q k n G pc l st) fun b => oe (clv (mo Y) ins (gc G b)) (Wp X Y d Q k n G pc l st) fun q => q.1 = z ∧ q.2.1 = na ∧ gc G b ≠ 0 ∧ inv X Y d Q k n G pc l st na q.2.2 z) := rfl
theorem tsw_n {x lo : Int} : tsw c k n G pc l st x lo [] = True := rfl
theorem tsw_c {x lo o : Int} {t : List Int} : tsw c k n G pc l st x lo (o :: t) = ((x = lo → jok pc o ∧ jmp c k n G pc o l st) ∧ tsw c k n G pc l st x (lo + 1) t) := rfl
theorem lsw_n {x dflt : Int} : lsw c k n G pc l st x dflt [] = (jok pc dflt ∧ jmp c k n G pc dflt l st) := rfl
theorem lsw_c {x dflt : Int} {q : Int × Int} {t : List (Int × Int)} : lsw c k n G pc l st x dflt (q :: t) = ((x = q.1 → jok pc q.2 ∧ jmp c k n G pc q.2 l st) ∧ (x ≠ q.1 → lsw c k n G pc l st x dflt t)) := rfl
end
section
variable {e : Prop} {r : List Value} {x y : Int32} {a : Nat} {v w u : Value}
theorem si1_d {f : Int32 → List Value → Prop} : si1 (.int x :: r) e f = f x r := rfl
theorem si2_d {f : Int32 → Int32 → List Value → Prop} : si2 (.int y :: .int x :: r) e f = f x y r := rfl
theorem sl2_d {x y : Int64} {f : Int64 → Int64 → List Value → Prop} : sl2 (.long y :: .long x :: r) e f = f x y r := rfl
theorem sf1_d {x : UInt32} {f : UInt32 → List Value → Prop} : sf1 (.float x :: r) e f = f x r := rfl
theorem sf2_d {x y : UInt32} {f : UInt32 → UInt32 → List Value → Prop} : sf2 (.float y :: .float x :: r) e f = f x y r := rfl
theorem sr1_d {f : Nat → List Value → Prop} : sr1 (.ref a :: r) e f = f a r := rfl
theorem sv1_d {f : Value → List Value → Prop} : sv1 (v :: r) e f = f v r := rfl
theorem sv2_d {f : Value → Value → List Value → Prop} : sv2 (v :: w :: r) e f = f v w r := rfl
theorem sv3_d {f : Value → Value → Value → List Value → Prop} : sv3 (v :: w :: u :: r) e f = f v w u r := rfl
theorem svr_d {f : Value → Nat → List Value → Prop} : svr (v :: .ref a :: r) e f = f v a r := rfl
theorem sai_d {f : Int32 → Nat → List Value → Prop} : sai (.int x :: .ref a :: r) e f = f x a r := rfl
theorem svai_d {f : Value → Int32 → Nat → List Value → Prop} : svai (v :: .int x :: .ref a :: r) e f = f v x a r := rfl
theorem li_d {f : Int32 → Prop} : li (some (some (.int x))) e f = f x := rfl
theorem ll_d {x : Int64} {f : Int64 → Prop} : ll (some (some (.long x))) e f = f x := rfl
theorem lf_d {x : UInt32} {f : UInt32 → Prop} : lf (some (some (.float x))) e f = f x := rfl
theorem lv_d {f : Value → Prop} : lv (some (some v)) e f = f v := rfl
theorem oe_s {α : Type} {o : α} {f : α → Prop} : oe (some o) e f = f o := rfl
theorem oe_n {α : Type} {f : α → Prop} : oe (none : Option α) e f = e := rfl
def rcvm (o : Option Value) (e : Prop) (f : Nat → Prop) : Prop := match o with
  | some (.ref b) => f b
  | _ => e
theorem rcv_d {na : Nat} {f : Nat → Prop} : rcv na r e f = rcvm r[na - 1]? e f := by
  unfold rcv rcvm
  rfl
theorem rcvm_d {f : Nat → Prop} : rcvm (some (.ref a)) e f = f a := rfl
theorem kill2_n : kill2 none = none := rfl
theorem kill2_i : kill2 (some (.int x)) = some (.int x) := rfl
theorem kill2_r : kill2 (some (.ref a)) = some (.ref a) := rfl
theorem kill2_u : kill2 (some .null) = some .null := rfl
theorem kill2_f {x : UInt32} : kill2 (some (.float x)) = some (.float x) := rfl
theorem kill2_l {x : Int64} : kill2 (some (.long x)) = none := rfl
theorem rfOK_r : rfOK (.ref a) = True := rfl
theorem rfOK_n : rfOK .null = True := rfl
theorem isC2_i : isC2 (.int x) = false := rfl
theorem isC2_r : isC2 (.ref a) = false := rfl
theorem isC2_n : isC2 .null = false := rfl
theorem isC2_f {x : UInt32} : isC2 (.float x) = false := rfl
theorem isC2_l {x : Int64} : isC2 (.long x) = true := rfl
theorem cnd_eq : cnd .eq x y = (x.toInt = y.toInt) := rfl
theorem cnd_ne : cnd .ne x y = (x.toInt ≠ y.toInt) := rfl
theorem cnd_lt : cnd .lt x y = (x.toInt < y.toInt) := rfl
theorem cnd_ge : cnd .ge x y = (y.toInt ≤ x.toInt) := rfl
theorem cnd_gt : cnd .gt x y = (y.toInt < x.toInt) := rfl
theorem cnd_le : cnd .le x y = (x.toInt ≤ y.toInt) := rfl
theorem i32_0 : (0 : Int32).toInt = 0 := rfl
theorem fin4_0 : (0 : Fin 4).val = 0 := rfl
theorem fin4_1 : (1 : Fin 4).val = 1 := rfl
theorem fin4_2 : (2 : Fin 4).val = 2 := rfl
theorem fin4_3 : (3 : Fin 4).val = 3 := rfl
theorem fin2_0 : (0 : Fin 2).val = 0 := rfl
theorem fin2_1 : (1 : Fin 2).val = 1 := rfl
theorem nf_i : narrow .int (.int x) = .int x := rfl
theorem nf_z0 : narrow .boolean (.int (iI 0)) = .int (iI 0) := rfl
theorem nf_z1 : narrow .boolean (.int (iI 1)) = .int (iI 1) := rfl
theorem nf_o {C : String} : narrow (.object C) v = v := rfl
theorem nf_a {t : FieldType} : narrow (.array t) v = v := rfl
theorem nf_f {x : UInt32} : narrow .float (.float x) = .float x := rfl
theorem ff_i : fits .int (.int x) = true := rfl
theorem ff_z0 : fits .boolean (.int (iI 0)) = true := rfl
theorem ff_z1 : fits .boolean (.int (iI 1)) = true := rfl
theorem ff_or {C : String} : fits (.object C) (.ref a) = true := rfl
theorem ff_on {C : String} : fits (.object C) .null = true := rfl
theorem ff_ar {t : FieldType} : fits (.array t) (.ref a) = true := rfl
theorem ff_an {t : FieldType} : fits (.array t) .null = true := rfl
theorem ff_f {x : UInt32} : fits .float (.float x) = true := rfl
theorem gEnt_n {n : Nat} : gEnt [] n = List.replicate n none := rfl
theorem gEnt_c {t : List Value} {n : Nat} : gEnt (v :: t) n = some v :: (if isC2 v then none :: gEnt t (n - 2) else gEnt t (n - 1)) := rfl
end
theorem iI_add (a b : Int) : iI a + iI b = iI (a + b) := (Int32.ofInt_add a b).symm
theorem iI_sub (a b : Int) : iI a - iI b = iI (a - b) := (Int32.ofInt_sub a b).symm
theorem iI_mul (a b : Int) : iI a * iI b = iI (a * b) := (Int32.ofInt_mul a b).symm
theorem iI_neg (a : Int) : -(iI a) = iI (-a) := (Int32.ofInt_neg a).symm
theorem lset_0 {a0 : Option Value} {t : List (Option Value)} {v : Value} : lset (a0 :: t) 0 v = some v :: t := rfl
theorem lset_1 {a0 a1 : Option Value} {t : List (Option Value)} {v : Value} : lset (a0 :: a1 :: t) 1 v = kill2 a0 :: some v :: t := rfl
theorem lset_2 {a0 a1 a2 : Option Value} {t : List (Option Value)} {v : Value} : lset (a0 :: a1 :: a2 :: t) 2 v = a0 :: kill2 a1 :: some v :: t := rfl
theorem lset_3 {a0 a1 a2 a3 : Option Value} {t : List (Option Value)} {v : Value} : lset (a0 :: a1 :: a2 :: a3 :: t) 3 v = a0 :: a1 :: kill2 a2 :: some v :: t := rfl
theorem lset_4 {a0 a1 a2 a3 a4 : Option Value} {t : List (Option Value)} {v : Value} : lset (a0 :: a1 :: a2 :: a3 :: a4 :: t) 4 v = a0 :: a1 :: a2 :: kill2 a3 :: some v :: t := rfl
theorem lset_5 {a0 a1 a2 a3 a4 a5 : Option Value} {t : List (Option Value)} {v : Value} : lset (a0 :: a1 :: a2 :: a3 :: a4 :: a5 :: t) 5 v = a0 :: a1 :: a2 :: a3 :: kill2 a4 :: some v :: t := rfl
theorem lset_6 {a0 a1 a2 a3 a4 a5 a6 : Option Value} {t : List (Option Value)} {v : Value} : lset (a0 :: a1 :: a2 :: a3 :: a4 :: a5 :: a6 :: t) 6 v = a0 :: a1 :: a2 :: a3 :: a4 :: kill2 a5 :: some v :: t := rfl
theorem lset_7 {a0 a1 a2 a3 a4 a5 a6 a7 : Option Value} {t : List (Option Value)} {v : Value} : lset (a0 :: a1 :: a2 :: a3 :: a4 :: a5 :: a6 :: a7 :: t) 7 v = a0 :: a1 :: a2 :: a3 :: a4 :: a5 :: kill2 a6 :: some v :: t := rfl
theorem lset_8 {a0 a1 a2 a3 a4 a5 a6 a7 a8 : Option Value} {t : List (Option Value)} {v : Value} : lset (a0 :: a1 :: a2 :: a3 :: a4 :: a5 :: a6 :: a7 :: a8 :: t) 8 v = a0 :: a1 :: a2 :: a3 :: a4 :: a5 :: a6 :: kill2 a7 :: some v :: t := rfl
theorem lset_9 {a0 a1 a2 a3 a4 a5 a6 a7 a8 a9 : Option Value} {t : List (Option Value)} {v : Value} : lset (a0 :: a1 :: a2 :: a3 :: a4 :: a5 :: a6 :: a7 :: a8 :: a9 :: t) 9 v = a0 :: a1 :: a2 :: a3 :: a4 :: a5 :: a6 :: a7 :: kill2 a8 :: some v :: t := rfl
theorem lset_10 {a0 a1 a2 a3 a4 a5 a6 a7 a8 a9 a10 : Option Value} {t : List (Option Value)} {v : Value} : lset (a0 :: a1 :: a2 :: a3 :: a4 :: a5 :: a6 :: a7 :: a8 :: a9 :: a10 :: t) 10 v = a0 :: a1 :: a2 :: a3 :: a4 :: a5 :: a6 :: a7 :: a8 :: kill2 a9 :: some v :: t := rfl
theorem lset_11 {a0 a1 a2 a3 a4 a5 a6 a7 a8 a9 a10 a11 : Option Value} {t : List (Option Value)} {v : Value} : lset (a0 :: a1 :: a2 :: a3 :: a4 :: a5 :: a6 :: a7 :: a8 :: a9 :: a10 :: a11 :: t) 11 v = a0 :: a1 :: a2 :: a3 :: a4 :: a5 :: a6 :: a7 :: a8 :: a9 :: kill2 a10 :: some v :: t := rfl
theorem lset_12 {a0 a1 a2 a3 a4 a5 a6 a7 a8 a9 a10 a11 a12 : Option Value} {t : List (Option Value)} {v : Value} : lset (a0 :: a1 :: a2 :: a3 :: a4 :: a5 :: a6 :: a7 :: a8 :: a9 :: a10 :: a11 :: a12 :: t) 12 v = a0 :: a1 :: a2 :: a3 :: a4 :: a5 :: a6 :: a7 :: a8 :: a9 :: a10 :: kill2 a11 :: some v :: t := rfl
theorem lset_13 {a0 a1 a2 a3 a4 a5 a6 a7 a8 a9 a10 a11 a12 a13 : Option Value} {t : List (Option Value)} {v : Value} : lset (a0 :: a1 :: a2 :: a3 :: a4 :: a5 :: a6 :: a7 :: a8 :: a9 :: a10 :: a11 :: a12 :: a13 :: t) 13 v = a0 :: a1 :: a2 :: a3 :: a4 :: a5 :: a6 :: a7 :: a8 :: a9 :: a10 :: a11 :: kill2 a12 :: some v :: t := rfl
theorem lget_0 {α : Type} {a0 : α} {t : List α} : (a0 :: t)[0]? = some a0 := rfl
theorem lget_1 {α : Type} {a0 a1 : α} {t : List α} : (a0 :: a1 :: t)[1]? = some a1 := rfl
theorem lget_2 {α : Type} {a0 a1 a2 : α} {t : List α} : (a0 :: a1 :: a2 :: t)[2]? = some a2 := rfl
theorem lget_3 {α : Type} {a0 a1 a2 a3 : α} {t : List α} : (a0 :: a1 :: a2 :: a3 :: t)[3]? = some a3 := rfl
theorem lget_4 {α : Type} {a0 a1 a2 a3 a4 : α} {t : List α} : (a0 :: a1 :: a2 :: a3 :: a4 :: t)[4]? = some a4 := rfl
theorem lget_5 {α : Type} {a0 a1 a2 a3 a4 a5 : α} {t : List α} : (a0 :: a1 :: a2 :: a3 :: a4 :: a5 :: t)[5]? = some a5 := rfl
theorem lget_6 {α : Type} {a0 a1 a2 a3 a4 a5 a6 : α} {t : List α} : (a0 :: a1 :: a2 :: a3 :: a4 :: a5 :: a6 :: t)[6]? = some a6 := rfl
theorem lget_7 {α : Type} {a0 a1 a2 a3 a4 a5 a6 a7 : α} {t : List α} : (a0 :: a1 :: a2 :: a3 :: a4 :: a5 :: a6 :: a7 :: t)[7]? = some a7 := rfl
theorem lget_8 {α : Type} {a0 a1 a2 a3 a4 a5 a6 a7 a8 : α} {t : List α} : (a0 :: a1 :: a2 :: a3 :: a4 :: a5 :: a6 :: a7 :: a8 :: t)[8]? = some a8 := rfl
theorem lget_9 {α : Type} {a0 a1 a2 a3 a4 a5 a6 a7 a8 a9 : α} {t : List α} : (a0 :: a1 :: a2 :: a3 :: a4 :: a5 :: a6 :: a7 :: a8 :: a9 :: t)[9]? = some a9 := rfl
theorem lget_10 {α : Type} {a0 a1 a2 a3 a4 a5 a6 a7 a8 a9 a10 : α} {t : List α} : (a0 :: a1 :: a2 :: a3 :: a4 :: a5 :: a6 :: a7 :: a8 :: a9 :: a10 :: t)[10]? = some a10 := rfl
theorem lget_11 {α : Type} {a0 a1 a2 a3 a4 a5 a6 a7 a8 a9 a10 a11 : α} {t : List α} : (a0 :: a1 :: a2 :: a3 :: a4 :: a5 :: a6 :: a7 :: a8 :: a9 :: a10 :: a11 :: t)[11]? = some a11 := rfl
theorem lget_12 {α : Type} {a0 a1 a2 a3 a4 a5 a6 a7 a8 a9 a10 a11 a12 : α} {t : List α} : (a0 :: a1 :: a2 :: a3 :: a4 :: a5 :: a6 :: a7 :: a8 :: a9 :: a10 :: a11 :: a12 :: t)[12]? = some a12 := rfl
theorem lget_13 {α : Type} {a0 a1 a2 a3 a4 a5 a6 a7 a8 a9 a10 a11 a12 a13 : α} {t : List α} : (a0 :: a1 :: a2 :: a3 :: a4 :: a5 :: a6 :: a7 :: a8 :: a9 :: a10 :: a11 :: a12 :: a13 :: t)[13]? = some a13 := rfl
theorem inv_0 {X : gX} {Y : gM} {d : Nat} {Q : Option Value → gH → Prop} {k n mi len pc : Nat} {G : gH} {l : List (Option Value)} {st : List Value} : inv X Y d Q k n G pc l (st) 0 mi len = (st.length ≤ 4 ∧ gCall X d (mth mi) [] k n G (fun k n r G => Wp X Y d Q k n G (pc + len) l (r.toList ++ st))) := by
  unfold inv
  simp
theorem inv_1 {X : gX} {Y : gM} {d : Nat} {Q : Option Value → gH → Prop} {k n mi len pc : Nat} {G : gH} {l : List (Option Value)} {a0 : Value} {st : List Value} : inv X Y d Q k n G pc l (a0 :: st) 1 mi len = (st.length ≤ 4 ∧ gCall X d (mth mi) [a0] k n G (fun k n r G => Wp X Y d Q k n G (pc + len) l (r.toList ++ st))) := by
  unfold inv
  simp
theorem inv_2 {X : gX} {Y : gM} {d : Nat} {Q : Option Value → gH → Prop} {k n mi len pc : Nat} {G : gH} {l : List (Option Value)} {a0 a1 : Value} {st : List Value} : inv X Y d Q k n G pc l (a0 :: a1 :: st) 2 mi len = (st.length ≤ 4 ∧ gCall X d (mth mi) [a1, a0] k n G (fun k n r G => Wp X Y d Q k n G (pc + len) l (r.toList ++ st))) := by
  unfold inv
  simp
theorem inv_3 {X : gX} {Y : gM} {d : Nat} {Q : Option Value → gH → Prop} {k n mi len pc : Nat} {G : gH} {l : List (Option Value)} {a0 a1 a2 : Value} {st : List Value} : inv X Y d Q k n G pc l (a0 :: a1 :: a2 :: st) 3 mi len = (st.length ≤ 4 ∧ gCall X d (mth mi) [a2, a1, a0] k n G (fun k n r G => Wp X Y d Q k n G (pc + len) l (r.toList ++ st))) := by
  unfold inv
  simp
theorem inv_4 {X : gX} {Y : gM} {d : Nat} {Q : Option Value → gH → Prop} {k n mi len pc : Nat} {G : gH} {l : List (Option Value)} {a0 a1 a2 a3 : Value} {st : List Value} : inv X Y d Q k n G pc l (a0 :: a1 :: a2 :: a3 :: st) 4 mi len = (st.length ≤ 4 ∧ gCall X d (mth mi) [a3, a2, a1, a0] k n G (fun k n r G => Wp X Y d Q k n G (pc + len) l (r.toList ++ st))) := by
  unfold inv
  simp
theorem inv_5 {X : gX} {Y : gM} {d : Nat} {Q : Option Value → gH → Prop} {k n mi len pc : Nat} {G : gH} {l : List (Option Value)} {a0 a1 a2 a3 a4 : Value} {st : List Value} : inv X Y d Q k n G pc l (a0 :: a1 :: a2 :: a3 :: a4 :: st) 5 mi len = (st.length ≤ 4 ∧ gCall X d (mth mi) [a4, a3, a2, a1, a0] k n G (fun k n r G => Wp X Y d Q k n G (pc + len) l (r.toList ++ st))) := by
  unfold inv
  simp
theorem inv_6 {X : gX} {Y : gM} {d : Nat} {Q : Option Value → gH → Prop} {k n mi len pc : Nat} {G : gH} {l : List (Option Value)} {a0 a1 a2 a3 a4 a5 : Value} {st : List Value} : inv X Y d Q k n G pc l (a0 :: a1 :: a2 :: a3 :: a4 :: a5 :: st) 6 mi len = (st.length ≤ 4 ∧ gCall X d (mth mi) [a5, a4, a3, a2, a1, a0] k n G (fun k n r G => Wp X Y d Q k n G (pc + len) l (r.toList ++ st))) := by
  unfold inv
  simp
theorem inv_7 {X : gX} {Y : gM} {d : Nat} {Q : Option Value → gH → Prop} {k n mi len pc : Nat} {G : gH} {l : List (Option Value)} {a0 a1 a2 a3 a4 a5 a6 : Value} {st : List Value} : inv X Y d Q k n G pc l (a0 :: a1 :: a2 :: a3 :: a4 :: a5 :: a6 :: st) 7 mi len = (st.length ≤ 4 ∧ gCall X d (mth mi) [a6, a5, a4, a3, a2, a1, a0] k n G (fun k n r G => Wp X Y d Q k n G (pc + len) l (r.toList ++ st))) := by
  unfold inv
  simp
theorem ar_o {C : String} : ((∃ nm, some (FieldType.object C) = some (.object nm)) ∨ ∃ t, some (FieldType.object C) = some (.array t)) = True := by simp
theorem ar_a {t : FieldType} : ((∃ nm, some (FieldType.array t) = some (.object nm)) ∨ ∃ t', some (FieldType.array t) = some (.array t')) = True := by simp
theorem cc_r {b : Nat} {p : Nat → Prop} : (Value.ref b = .null ∨ ∃ a, Value.ref b = .ref a ∧ p a) = p b := by simp
theorem cc_n {p : Nat → Prop} : (Value.null = .null ∨ ∃ a, Value.null = .ref a ∧ p a) = True := by simp
theorem ei_i {x : Int32} : (∃ y, Value.int x = .int y) = True := by simp
theorem ei_e {x : Int32} : (∃ y, x = y) = True := by simp
theorem nf_b {c : Prop} [Decidable c] : narrow .boolean (.int (iI (if c then 1 else 0))) = .int (iI (if c then 1 else 0)) := by split <;> rfl
theorem ff_b {c : Prop} [Decidable c] : fits .boolean (.int (iI (if c then 1 else 0))) = true := by split <;> rfl
theorem rn_ne {a : Nat} : (Value.ref a = .null) = False := by simp
theorem rn_ne' {a : Nat} : (Value.null = .ref a) = False := by simp
theorem rr_eq {a b : Nat} : (Value.ref a = .ref b) = (a = b) := by simp
theorem vi_eq {x y : Int32} : (Value.int x = .int y) = (x = y) := by simp
theorem len_n : ([] : List Value).length = 0 := rfl
theorem len_c {v : Value} {r : List Value} : (v :: r).length = r.length + 1 := rfl
theorem app_n {r : List Value} : ([] : List Value) ++ r = r := rfl
theorem app_c {v : Value} {r s : List Value} : (v :: r) ++ s = v :: (r ++ s) := rfl
theorem tl_s {v : Value} : (some v).toList = [v] := rfl
theorem tl_n : (none : Option Value).toList = [] := rfl
theorem ne_i {a b : Int} : (a ≠ b) = ¬ (a = b) := rfl
theorem ne_n {a b : Nat} : (a ≠ b) = ¬ (a = b) := rfl
theorem ne_v {a b : Value} : (a ≠ b) = ¬ (a = b) := rfl
theorem rep_n {n : Nat} : List.replicate (n + 1) (none : Option Value) = none :: List.replicate n none := rfl
theorem rep_0 : List.replicate 0 (none : Option Value) = [] := rfl
theorem iI_rt {z : Int} (h : -2147483648 ≤ z) (h2 : z < 2147483648) : (iI z).toInt = z := iI_toInt ⟨h, h2⟩
def exB := And.intro @sq_iconst (And.intro @sq_bipush (And.intro @sq_sipush (And.intro @sq_lconst (And.intro @sq_aconst_null (And.intro @sq_iload (And.intro @sq_iload_n (And.intro @sq_lload (And.intro @sq_lload_n (And.intro @sq_fload (And.intro @sq_fload_n (And.intro @sq_aload (And.intro @sq_aload_n (And.intro @sq_istore (And.intro @sq_istore_n (And.intro @sq_fstore (And.intro @sq_astore (And.intro @sq_astore_n (And.intro @sq_iinc (And.intro @sq_iadd (And.intro @sq_isub (And.intro @sq_imul (And.intro @sq_idiv (And.intro @sq_irem (And.intro @sq_ineg (And.intro @sq_iand (And.intro @sq_ior (And.intro @sq_ixor (And.intro @sq_ishl (And.intro @sq_ishr (And.intro @sq_iushr (And.intro @sq_i2l (And.intro @sq_i2b (And.intro @sq_i2c (And.intro @sq_i2f (And.intro @sq_f2i (And.intro @sq_fmul (And.intro @sq_fcmp (And.intro @sq_lcmp (And.intro @sq_dup (And.intro @sq_dup_x1 (And.intro @sq_dup_x2 (And.intro @sq_dup2 (And.intro @sq_pop (And.intro @sq_goto (And.intro @sq_if_icmp (And.intro @sq_ifCond (And.intro @sq_if_acmp_eq (And.intro @sq_if_acmp_ne (And.intro @sq_ifnull (And.intro @sq_ifnonnull (And.intro @sq_tableswitch (And.intro @sq_lookupswitch (And.intro @sq_arraylength (And.intro @sq_iaload (And.intro @sq_baload (And.intro @sq_aaload (And.intro @sq_iastore (And.intro @sq_bastore (And.intro @sq_aastore (And.intro @sq_getfield (And.intro @sq_putfield (And.intro @sq_getstatic (And.intro @sq_new (And.intro @sq_newarray (And.intro @sq_anewarray (And.intro @sq_checkcast (And.intro @sq_instanceof (And.intro @sq_ldc (And.intro @sq_ldc2_w (And.intro @sq_invokestatic (And.intro @sq_invokevirtual (And.intro @sq_invokeinterface (And.intro @sq_invokespecial (And.intro @sq_return_ (And.intro @sq_ireturn (And.intro @sq_areturn (And.intro @lset_0 (And.intro @lset_1 (And.intro @lset_2 (And.intro @lset_3 (And.intro @lset_4 (And.intro @lset_5 (And.intro @lset_6 (And.intro @lset_7 (And.intro @lset_8 (And.intro @lset_9 (And.intro @lset_10 (And.intro @lset_11 (And.intro @lset_12 (And.intro @lset_13 (And.intro @lget_0 (And.intro @lget_1 (And.intro @lget_2 (And.intro @lget_3 (And.intro @lget_4 (And.intro @lget_5 (And.intro @lget_6 (And.intro @lget_7 (And.intro @lget_8 (And.intro @lget_9 (And.intro @lget_10 (And.intro @lget_11 (And.intro @lget_12 (And.intro @lget_13 (And.intro @inv_0 (And.intro @inv_1 (And.intro @inv_2 (And.intro @inv_3 (And.intro @inv_4 (And.intro @inv_5 (And.intro @inv_6 (And.intro @inv_7 (And.intro @ex_z (And.intro @ex_s (And.intro @exc_z (And.intro @exc_s (And.intro @ex1_d (And.intro @eqn_r (And.intro @jok_d (And.intro @jmp_d (And.intro @vinv_d (And.intro @tsw_n (And.intro @tsw_c (And.intro @lsw_n (And.intro @lsw_c (And.intro @si1_d (And.intro @si2_d (And.intro @sl2_d (And.intro @sf1_d (And.intro @sf2_d (And.intro @sr1_d (And.intro @sv1_d (And.intro @sv2_d (And.intro @sv3_d (And.intro @svr_d (And.intro @sai_d (And.intro @svai_d (And.intro @li_d (And.intro @ll_d (And.intro @lf_d (And.intro @lv_d (And.intro @oe_s (And.intro @oe_n (And.intro @rcvm_d (And.intro @kill2_n (And.intro @kill2_i (And.intro @kill2_r (And.intro @kill2_u (And.intro @kill2_f (And.intro @kill2_l (And.intro @rfOK_r (And.intro @rfOK_n (And.intro @isC2_i (And.intro @isC2_r (And.intro @isC2_n (And.intro @isC2_f (And.intro @isC2_l (And.intro @cnd_eq (And.intro @cnd_ne (And.intro @cnd_lt (And.intro @cnd_ge (And.intro @cnd_gt (And.intro @cnd_le (And.intro @i32_0 (And.intro @fin4_0 (And.intro @fin4_1 (And.intro @fin4_2 (And.intro @fin4_3 (And.intro @fin2_0 (And.intro @fin2_1 (And.intro @nf_i (And.intro @nf_z0 (And.intro @nf_z1 (And.intro @nf_o (And.intro @nf_a (And.intro @nf_f (And.intro @ff_i (And.intro @ff_z0 (And.intro @ff_z1 (And.intro @ff_or (And.intro @ff_on (And.intro @ff_ar (And.intro @ff_an (And.intro @ff_f (And.intro @gEnt_n (And.intro @gEnt_c (And.intro @ar_o (And.intro @ar_a (And.intro @cc_r (And.intro @cc_n (And.intro @ei_i (And.intro @ei_e (And.intro @nf_b (And.intro @ff_b (And.intro @rn_ne (And.intro @rr_eq (And.intro @vi_eq (And.intro @len_n (And.intro @len_c (And.intro @app_n (And.intro @app_c (And.intro @tl_s (And.intro @tl_n (And.intro @ne_i (And.intro @ne_n (And.intro @ne_v (And.intro @rep_n (And.intro @rep_0 (And.intro @rcv_d (And.intro @iI_add (And.intro @iI_sub (And.intro @iI_mul (And.intro @iI_neg (And.intro @Int.cast_ofNat_Int (And.intro @true_and (And.intro @and_true (And.intro @not_false_eq_true (And.intro @not_true_eq_false (And.intro @true_implies (And.intro @false_implies (And.intro @false_and (And.intro @and_false (And.intro @false_or (And.intro @or_false (And.intro @true_or (And.intro @or_true (@Bool.false_eq_true)))))))))))))))))))))))))))))))))))))))))))))))))))))))))))))))))))))))))))))))))))))))))))))))))))))))))))))))))))))))))))))))))))))))))))))))))))))))))))))))))))))))))))))))))))))))))))))))))))))))))))))))))))))))))))))))))))
