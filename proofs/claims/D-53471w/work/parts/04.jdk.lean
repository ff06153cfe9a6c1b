/-! java/util/AbstractCollection -/
set_option maxRecDepth 100000
def RJ0 : String := "java/util/AbstractCollection"
abbrev cJ0_init : ByteArray := prog_36_method_1_code
def yJ0_init : MethodName := ⟨RJ0, "<init>", "()V"⟩
theorem dJ0_init_0 : decode cJ0_init 0 = .ok (.aload_n 0, 1) := by decide +kernel
theorem dJ0_init_1 : decode cJ0_init 1 = .ok (.invokespecial 1, 3) := by decide +kernel
theorem dJ0_init_4 : decode cJ0_init 4 = .ok (.return_, 1) := by decide +kernel
theorem q101 : (Jvm.Cond.initialized "java/util/AbstractCollection") ∈ lw_all := lw_g (lw_at lw_m1 4 rfl) rfl
theorem q186 : (Jvm.Cond.instanceMethod ({ cls := "java/util/AbstractCollection", name := "<init>", desc := "()V" } : Jvm.MethodName)) ∈ lw_all := lw_g (lw_at lw_m1 89 rfl) rfl
theorem q187 : (Jvm.Cond.code ({ cls := "java/util/AbstractCollection", name := "<init>", desc := "()V" } : Jvm.MethodName) prog_36_method_1_code (1 : Nat) (Option.none : Option Jvm.ClassFile.FieldType)) ∈ lw_all := lw_g (lw_at lw_m1 90 rfl) rfl
theorem q188 : (Jvm.Cond.methodLink "java/util/AbstractCollection" (1 : Nat) ({ cls := "java/lang/Object", name := "<init>", desc := "()V" } : Jvm.MethodName)) ∈ lw_all := lw_g (lw_at lw_m1 91 rfl) rfl
/-! java/util/AbstractList -/
set_option maxRecDepth 100000
def RJ1 : String := "java/util/AbstractList"
abbrev cJ1_init : ByteArray := prog_37_method_1_code
def yJ1_init : MethodName := ⟨RJ1, "<init>", "()V"⟩
def dkwJ1_init_0 : List UInt8 := [42, 183, 0, 1, 42, 3, 181, 0, 7, 177]
abbrev dktJ1_init_0 : List UInt8 := dkwJ1_init_0 ++ []
theorem dksJ1_init_0 : cJ1_init.data.toList.drop 0 = dktJ1_init_0 := by decide +kernel
theorem dJ1_init_0 : decode cJ1_init 0 = .ok (.aload_n 0, 1) := dk_42 (dk_at dksJ1_init_0 0 rfl rfl)
theorem dJ1_init_1 : decode cJ1_init 1 = .ok (.invokespecial 1, 3) := dk_183 0 1 (dk_at dksJ1_init_0 1 rfl rfl)
theorem dJ1_init_4 : decode cJ1_init 4 = .ok (.aload_n 0, 1) := dk_42 (dk_at dksJ1_init_0 4 rfl rfl)
theorem dJ1_init_5 : decode cJ1_init 5 = .ok (.iconst 0, 1) := dk_3 (dk_at dksJ1_init_0 5 rfl rfl)
theorem dJ1_init_6 : decode cJ1_init 6 = .ok (.putfield 7, 3) := dk_181 0 7 (dk_at dksJ1_init_0 6 rfl rfl)
theorem dJ1_init_9 : decode cJ1_init 9 = .ok (.return_, 1) := dk_177 (dk_at dksJ1_init_0 9 rfl rfl)
theorem q102 : (Jvm.Cond.initialized "java/util/AbstractList") ∈ lw_all := lw_g (lw_at lw_m1 5 rfl) rfl
theorem q183 : (Jvm.Cond.instanceMethod ({ cls := "java/util/AbstractList", name := "<init>", desc := "()V" } : Jvm.MethodName)) ∈ lw_all := lw_g (lw_at lw_m1 86 rfl) rfl
theorem q184 : (Jvm.Cond.code ({ cls := "java/util/AbstractList", name := "<init>", desc := "()V" } : Jvm.MethodName) prog_37_method_1_code (1 : Nat) (Option.none : Option Jvm.ClassFile.FieldType)) ∈ lw_all := lw_g (lw_at lw_m1 87 rfl) rfl
theorem q185 : (Jvm.Cond.methodLink "java/util/AbstractList" (1 : Nat) ({ cls := "java/util/AbstractCollection", name := "<init>", desc := "()V" } : Jvm.MethodName)) ∈ lw_all := lw_g (lw_at lw_m1 88 rfl) rfl
theorem q195 : (Jvm.Cond.fieldLink "java/util/AbstractList" (7 : Nat) "java/util/AbstractList" "modCount" "I") ∈ lw_all := lw_g (lw_at lw_m1 98 rfl) rfl
theorem q204 : (Jvm.Cond.soleField "java/util/AbstractList" "modCount") ∈ lw_all := lw_g (lw_at lw_m1 107 rfl) rfl
/-! java/util/ArrayList -/
set_option maxRecDepth 100000
def RJ2 : String := "java/util/ArrayList"
def TJ2 : u_T := fun k => match k with
  | 0 => ("java/util/AbstractList", "modCount", "I", false)
  | 1 => ("java/util/ArrayList", "elementData", "[Ljava/lang/Object;", false)
  | _ => ("java/util/ArrayList", "size", "I", false)
def tyJ2 : Nat → FieldType := fun k => match k with
  | 0 => .int
  | 1 => .array (.object "java/lang/Object")
  | _ => .int
abbrev wsJ20 : List Cond := u_ws RJ2 TJ2 3
theorem nmJ2 : ∀ a, a < 3 → ∀ b, b < 3 → a ≠ b → (TJ2 a).2.1 ≠ (TJ2 b).2.1 := by decide +kernel
theorem tyJ2_ok : ∀ k, k < 3 → parseFieldDescriptor (TJ2 k).2.2.1 = some (tyJ2 k) := by decide +kernel
abbrev cJ2_init : ByteArray := prog_43_method_2_code
def yJ2_init : MethodName := ⟨RJ2, "<init>", "()V"⟩
def dkwJ2_init_0 : List UInt8 := [42, 183, 0, 1, 42, 178, 0, 39, 181, 0, 9, 177]
abbrev dktJ2_init_0 : List UInt8 := dkwJ2_init_0 ++ []
theorem dksJ2_init_0 : cJ2_init.data.toList.drop 0 = dktJ2_init_0 := by decide +kernel
theorem dJ2_init_0 : decode cJ2_init 0 = .ok (.aload_n 0, 1) := dk_42 (dk_at dksJ2_init_0 0 rfl rfl)
theorem dJ2_init_1 : decode cJ2_init 1 = .ok (.invokespecial 1, 3) := dk_183 0 1 (dk_at dksJ2_init_0 1 rfl rfl)
theorem dJ2_init_4 : decode cJ2_init 4 = .ok (.aload_n 0, 1) := dk_42 (dk_at dksJ2_init_0 4 rfl rfl)
theorem dJ2_init_5 : decode cJ2_init 5 = .ok (.getstatic 39, 3) := dk_178 0 39 (dk_at dksJ2_init_0 5 rfl rfl)
theorem dJ2_init_8 : decode cJ2_init 8 = .ok (.putfield 9, 3) := dk_181 0 9 (dk_at dksJ2_init_0 8 rfl rfl)
theorem dJ2_init_11 : decode cJ2_init 11 = .ok (.return_, 1) := dk_177 (dk_at dksJ2_init_0 11 rfl rfl)
abbrev cJ2_iterator : ByteArray := prog_43_method_55_code
def yJ2_iterator : MethodName := ⟨RJ2, "iterator", "()Ljava/util/Iterator;"⟩
def dkwJ2_iterator_0 : List UInt8 := [187, 1, 11, 89, 42, 183, 1, 13, 176]
abbrev dktJ2_iterator_0 : List UInt8 := dkwJ2_iterator_0 ++ []
theorem dksJ2_iterator_0 : cJ2_iterator.data.toList.drop 0 = dktJ2_iterator_0 := by decide +kernel
theorem dJ2_iterator_0 : decode cJ2_iterator 0 = .ok (.new 267, 3) := dk_187 1 11 (dk_at dksJ2_iterator_0 0 rfl rfl)
theorem dJ2_iterator_3 : decode cJ2_iterator 3 = .ok (.dup, 1) := dk_89 (dk_at dksJ2_iterator_0 3 rfl rfl)
theorem dJ2_iterator_4 : decode cJ2_iterator 4 = .ok (.aload_n 0, 1) := dk_42 (dk_at dksJ2_iterator_0 4 rfl rfl)
theorem dJ2_iterator_5 : decode cJ2_iterator 5 = .ok (.invokespecial 269, 3) := dk_183 1 13 (dk_at dksJ2_iterator_0 5 rfl rfl)
theorem dJ2_iterator_8 : decode cJ2_iterator 8 = .ok (.areturn, 1) := dk_176 (dk_at dksJ2_iterator_0 8 rfl rfl)
abbrev cJ2_add : ByteArray := prog_43_method_25_code
def yJ2_add : MethodName := ⟨RJ2, "add", "(Ljava/lang/Object;)Z"⟩
def dkwJ2_add_1 : List UInt8 := [172]
abbrev dktJ2_add_1 : List UInt8 := dkwJ2_add_1 ++ []
def dkwJ2_add_0 : List UInt8 := [42, 89, 180, 0, 63, 4, 96, 181, 0, 63, 42, 43, 42, 180, 0, 9, 42, 180, 0, 48, 182, 0, 131, 4]
abbrev dktJ2_add_0 : List UInt8 := dkwJ2_add_0 ++ dktJ2_add_1
theorem dksJ2_add_0 : cJ2_add.data.toList.drop 0 = dktJ2_add_0 := by decide +kernel
theorem dksJ2_add_1 : cJ2_add.data.toList.drop 24 = dktJ2_add_1 := dk_seg dksJ2_add_0 24 rfl rfl
theorem dJ2_add_0 : decode cJ2_add 0 = .ok (.aload_n 0, 1) := dk_42 (dk_at dksJ2_add_0 0 rfl rfl)
theorem dJ2_add_1 : decode cJ2_add 1 = .ok (.dup, 1) := dk_89 (dk_at dksJ2_add_0 1 rfl rfl)
theorem dJ2_add_2 : decode cJ2_add 2 = .ok (.getfield 63, 3) := dk_180 0 63 (dk_at dksJ2_add_0 2 rfl rfl)
theorem dJ2_add_5 : decode cJ2_add 5 = .ok (.iconst 1, 1) := dk_4 (dk_at dksJ2_add_0 5 rfl rfl)
theorem dJ2_add_6 : decode cJ2_add 6 = .ok (.iadd, 1) := dk_96 (dk_at dksJ2_add_0 6 rfl rfl)
theorem dJ2_add_7 : decode cJ2_add 7 = .ok (.putfield 63, 3) := dk_181 0 63 (dk_at dksJ2_add_0 7 rfl rfl)
theorem dJ2_add_10 : decode cJ2_add 10 = .ok (.aload_n 0, 1) := dk_42 (dk_at dksJ2_add_0 10 rfl rfl)
theorem dJ2_add_11 : decode cJ2_add 11 = .ok (.aload_n 1, 1) := dk_43 (dk_at dksJ2_add_0 11 rfl rfl)
theorem dJ2_add_12 : decode cJ2_add 12 = .ok (.aload_n 0, 1) := dk_42 (dk_at dksJ2_add_0 12 rfl rfl)
theorem dJ2_add_13 : decode cJ2_add 13 = .ok (.getfield 9, 3) := dk_180 0 9 (dk_at dksJ2_add_0 13 rfl rfl)
theorem dJ2_add_16 : decode cJ2_add 16 = .ok (.aload_n 0, 1) := dk_42 (dk_at dksJ2_add_0 16 rfl rfl)
theorem dJ2_add_17 : decode cJ2_add 17 = .ok (.getfield 48, 3) := dk_180 0 48 (dk_at dksJ2_add_0 17 rfl rfl)
theorem dJ2_add_20 : decode cJ2_add 20 = .ok (.invokevirtual 131, 3) := dk_182 0 131 (dk_at dksJ2_add_0 20 rfl rfl)
theorem dJ2_add_23 : decode cJ2_add 23 = .ok (.iconst 1, 1) := dk_4 (dk_at dksJ2_add_0 23 rfl rfl)
theorem dJ2_add_24 : decode cJ2_add 24 = .ok (.ireturn, 1) := dk_172 (dk_at dksJ2_add_1 0 rfl rfl)
abbrev cJ2_add_2 : ByteArray := prog_43_method_24_code
def yJ2_add_2 : MethodName := ⟨RJ2, "add", "(Ljava/lang/Object;[Ljava/lang/Object;I)V"⟩
def dkwJ2_add_2_0 : List UInt8 := [29, 44, 190, 160, 0, 8, 42, 182, 0, 129, 77, 44, 29, 43, 83, 42, 29, 4, 96, 181, 0, 48, 177]
abbrev dktJ2_add_2_0 : List UInt8 := dkwJ2_add_2_0 ++ []
theorem dksJ2_add_2_0 : cJ2_add_2.data.toList.drop 0 = dktJ2_add_2_0 := by decide +kernel
theorem dJ2_add_2_0 : decode cJ2_add_2 0 = .ok (.iload_n 3, 1) := dk_29 (dk_at dksJ2_add_2_0 0 rfl rfl)
theorem dJ2_add_2_1 : decode cJ2_add_2 1 = .ok (.aload_n 2, 1) := dk_44 (dk_at dksJ2_add_2_0 1 rfl rfl)
theorem dJ2_add_2_2 : decode cJ2_add_2 2 = .ok (.arraylength, 1) := dk_190 (dk_at dksJ2_add_2_0 2 rfl rfl)
theorem dJ2_add_2_3 : decode cJ2_add_2 3 = .ok (.if_icmp .ne 8, 3) := dk_160 0 8 (dk_at dksJ2_add_2_0 3 rfl rfl)
theorem dJ2_add_2_6 : decode cJ2_add_2 6 = .ok (.aload_n 0, 1) := dk_42 (dk_at dksJ2_add_2_0 6 rfl rfl)
theorem dJ2_add_2_7 : decode cJ2_add_2 7 = .ok (.invokevirtual 129, 3) := dk_182 0 129 (dk_at dksJ2_add_2_0 7 rfl rfl)
theorem dJ2_add_2_10 : decode cJ2_add_2 10 = .ok (.astore_n 2, 1) := dk_77 (dk_at dksJ2_add_2_0 10 rfl rfl)
theorem dJ2_add_2_11 : decode cJ2_add_2 11 = .ok (.aload_n 2, 1) := dk_44 (dk_at dksJ2_add_2_0 11 rfl rfl)
theorem dJ2_add_2_12 : decode cJ2_add_2 12 = .ok (.iload_n 3, 1) := dk_29 (dk_at dksJ2_add_2_0 12 rfl rfl)
theorem dJ2_add_2_13 : decode cJ2_add_2 13 = .ok (.aload_n 1, 1) := dk_43 (dk_at dksJ2_add_2_0 13 rfl rfl)
theorem dJ2_add_2_14 : decode cJ2_add_2 14 = .ok (.aastore, 1) := dk_83 (dk_at dksJ2_add_2_0 14 rfl rfl)
theorem dJ2_add_2_15 : decode cJ2_add_2 15 = .ok (.aload_n 0, 1) := dk_42 (dk_at dksJ2_add_2_0 15 rfl rfl)
theorem dJ2_add_2_16 : decode cJ2_add_2 16 = .ok (.iload_n 3, 1) := dk_29 (dk_at dksJ2_add_2_0 16 rfl rfl)
theorem dJ2_add_2_17 : decode cJ2_add_2 17 = .ok (.iconst 1, 1) := dk_4 (dk_at dksJ2_add_2_0 17 rfl rfl)
theorem dJ2_add_2_18 : decode cJ2_add_2 18 = .ok (.iadd, 1) := dk_96 (dk_at dksJ2_add_2_0 18 rfl rfl)
theorem dJ2_add_2_19 : decode cJ2_add_2 19 = .ok (.putfield 48, 3) := dk_181 0 48 (dk_at dksJ2_add_2_0 19 rfl rfl)
theorem dJ2_add_2_22 : decode cJ2_add_2 22 = .ok (.return_, 1) := dk_177 (dk_at dksJ2_add_2_0 22 rfl rfl)
abbrev cJ2_grow : ByteArray := prog_43_method_7_code
def yJ2_grow : MethodName := ⟨RJ2, "grow", "()[Ljava/lang/Object;"⟩
def dkwJ2_grow_0 : List UInt8 := [42, 42, 180, 0, 48, 4, 96, 182, 0, 69, 176]
abbrev dktJ2_grow_0 : List UInt8 := dkwJ2_grow_0 ++ []
theorem dksJ2_grow_0 : cJ2_grow.data.toList.drop 0 = dktJ2_grow_0 := by decide +kernel
theorem dJ2_grow_0 : decode cJ2_grow 0 = .ok (.aload_n 0, 1) := dk_42 (dk_at dksJ2_grow_0 0 rfl rfl)
theorem dJ2_grow_1 : decode cJ2_grow 1 = .ok (.aload_n 0, 1) := dk_42 (dk_at dksJ2_grow_0 1 rfl rfl)
theorem dJ2_grow_2 : decode cJ2_grow 2 = .ok (.getfield 48, 3) := dk_180 0 48 (dk_at dksJ2_grow_0 2 rfl rfl)
theorem dJ2_grow_5 : decode cJ2_grow 5 = .ok (.iconst 1, 1) := dk_4 (dk_at dksJ2_grow_0 5 rfl rfl)
theorem dJ2_grow_6 : decode cJ2_grow 6 = .ok (.iadd, 1) := dk_96 (dk_at dksJ2_grow_0 6 rfl rfl)
theorem dJ2_grow_7 : decode cJ2_grow 7 = .ok (.invokevirtual 69, 3) := dk_182 0 69 (dk_at dksJ2_grow_0 7 rfl rfl)
theorem dJ2_grow_10 : decode cJ2_grow 10 = .ok (.areturn, 1) := dk_176 (dk_at dksJ2_grow_0 10 rfl rfl)
abbrev cJ2_grow_2 : ByteArray := prog_43_method_6_code
def yJ2_grow_2 : MethodName := ⟨RJ2, "grow", "(I)[Ljava/lang/Object;"⟩
def dkwJ2_grow_2_2 : List UInt8 := [27, 184, 0, 79, 189, 0, 7, 90, 181, 0, 9, 176]
abbrev dktJ2_grow_2_2 : List UInt8 := dkwJ2_grow_2_2 ++ []
def dkwJ2_grow_2_1 : List UInt8 := [28, 4, 122, 184, 0, 73, 62, 42, 42, 180, 0, 9, 29, 184, 0, 66, 90, 181, 0, 9, 176, 42, 16, 10]
abbrev dktJ2_grow_2_1 : List UInt8 := dkwJ2_grow_2_1 ++ dktJ2_grow_2_2
def dkwJ2_grow_2_0 : List UInt8 := [42, 180, 0, 9, 190, 61, 28, 157, 0, 13, 42, 180, 0, 9, 178, 0, 39, 165, 0, 28, 28, 27, 28, 100]
abbrev dktJ2_grow_2_0 : List UInt8 := dkwJ2_grow_2_0 ++ dktJ2_grow_2_1
theorem dksJ2_grow_2_0 : cJ2_grow_2.data.toList.drop 0 = dktJ2_grow_2_0 := by decide +kernel
theorem dksJ2_grow_2_1 : cJ2_grow_2.data.toList.drop 24 = dktJ2_grow_2_1 := dk_seg dksJ2_grow_2_0 24 rfl rfl
theorem dksJ2_grow_2_2 : cJ2_grow_2.data.toList.drop 48 = dktJ2_grow_2_2 := dk_seg dksJ2_grow_2_1 24 rfl rfl
theorem dJ2_grow_2_0 : decode cJ2_grow_2 0 = .ok (.aload_n 0, 1) := dk_42 (dk_at dksJ2_grow_2_0 0 rfl rfl)
theorem dJ2_grow_2_1 : decode cJ2_grow_2 1 = .ok (.getfield 9, 3) := dk_180 0 9 (dk_at dksJ2_grow_2_0 1 rfl rfl)
theorem dJ2_grow_2_4 : decode cJ2_grow_2 4 = .ok (.arraylength, 1) := dk_190 (dk_at dksJ2_grow_2_0 4 rfl rfl)
theorem dJ2_grow_2_5 : decode cJ2_grow_2 5 = .ok (.istore_n 2, 1) := dk_61 (dk_at dksJ2_grow_2_0 5 rfl rfl)
theorem dJ2_grow_2_6 : decode cJ2_grow_2 6 = .ok (.iload_n 2, 1) := dk_28 (dk_at dksJ2_grow_2_0 6 rfl rfl)
theorem dJ2_grow_2_7 : decode cJ2_grow_2 7 = .ok (.ifCond .gt 13, 3) := dk_157 0 13 (dk_at dksJ2_grow_2_0 7 rfl rfl)
theorem dJ2_grow_2_10 : decode cJ2_grow_2 10 = .ok (.aload_n 0, 1) := dk_42 (dk_at dksJ2_grow_2_0 10 rfl rfl)
theorem dJ2_grow_2_11 : decode cJ2_grow_2 11 = .ok (.getfield 9, 3) := dk_180 0 9 (dk_at dksJ2_grow_2_0 11 rfl rfl)
theorem dJ2_grow_2_14 : decode cJ2_grow_2 14 = .ok (.getstatic 39, 3) := dk_178 0 39 (dk_at dksJ2_grow_2_0 14 rfl rfl)
theorem dJ2_grow_2_17 : decode cJ2_grow_2 17 = .ok (.if_acmp .eq 28, 3) := dk_165 0 28 (dk_at dksJ2_grow_2_0 17 rfl rfl)
theorem dJ2_grow_2_20 : decode cJ2_grow_2 20 = .ok (.iload_n 2, 1) := dk_28 (dk_at dksJ2_grow_2_0 20 rfl rfl)
theorem dJ2_grow_2_21 : decode cJ2_grow_2 21 = .ok (.iload_n 1, 1) := dk_27 (dk_at dksJ2_grow_2_0 21 rfl rfl)
theorem dJ2_grow_2_22 : decode cJ2_grow_2 22 = .ok (.iload_n 2, 1) := dk_28 (dk_at dksJ2_grow_2_0 22 rfl rfl)
theorem dJ2_grow_2_23 : decode cJ2_grow_2 23 = .ok (.isub, 1) := dk_100 (dk_at dksJ2_grow_2_0 23 rfl rfl)
theorem dJ2_grow_2_24 : decode cJ2_grow_2 24 = .ok (.iload_n 2, 1) := dk_28 (dk_at dksJ2_grow_2_1 0 rfl rfl)
theorem dJ2_grow_2_25 : decode cJ2_grow_2 25 = .ok (.iconst 1, 1) := dk_4 (dk_at dksJ2_grow_2_1 1 rfl rfl)
theorem dJ2_grow_2_26 : decode cJ2_grow_2 26 = .ok (.ishr, 1) := dk_122 (dk_at dksJ2_grow_2_1 2 rfl rfl)
theorem dJ2_grow_2_27 : decode cJ2_grow_2 27 = .ok (.invokestatic 73, 3) := dk_184 0 73 (dk_at dksJ2_grow_2_1 3 rfl rfl)
theorem dJ2_grow_2_30 : decode cJ2_grow_2 30 = .ok (.istore_n 3, 1) := dk_62 (dk_at dksJ2_grow_2_1 6 rfl rfl)
theorem dJ2_grow_2_31 : decode cJ2_grow_2 31 = .ok (.aload_n 0, 1) := dk_42 (dk_at dksJ2_grow_2_1 7 rfl rfl)
theorem dJ2_grow_2_32 : decode cJ2_grow_2 32 = .ok (.aload_n 0, 1) := dk_42 (dk_at dksJ2_grow_2_1 8 rfl rfl)
theorem dJ2_grow_2_33 : decode cJ2_grow_2 33 = .ok (.getfield 9, 3) := dk_180 0 9 (dk_at dksJ2_grow_2_1 9 rfl rfl)
theorem dJ2_grow_2_36 : decode cJ2_grow_2 36 = .ok (.iload_n 3, 1) := dk_29 (dk_at dksJ2_grow_2_1 12 rfl rfl)
theorem dJ2_grow_2_37 : decode cJ2_grow_2 37 = .ok (.invokestatic 66, 3) := dk_184 0 66 (dk_at dksJ2_grow_2_1 13 rfl rfl)
theorem dJ2_grow_2_40 : decode cJ2_grow_2 40 = .ok (.dup_x1, 1) := dk_90 (dk_at dksJ2_grow_2_1 16 rfl rfl)
theorem dJ2_grow_2_41 : decode cJ2_grow_2 41 = .ok (.putfield 9, 3) := dk_181 0 9 (dk_at dksJ2_grow_2_1 17 rfl rfl)
theorem dJ2_grow_2_44 : decode cJ2_grow_2 44 = .ok (.areturn, 1) := dk_176 (dk_at dksJ2_grow_2_1 20 rfl rfl)
theorem dJ2_grow_2_45 : decode cJ2_grow_2 45 = .ok (.aload_n 0, 1) := dk_42 (dk_at dksJ2_grow_2_1 21 rfl rfl)
theorem dJ2_grow_2_46 : decode cJ2_grow_2 46 = .ok (.bipush 10, 2) := dk_16 10 (dk_at dksJ2_grow_2_1 22 rfl rfl)
theorem dJ2_grow_2_48 : decode cJ2_grow_2 48 = .ok (.iload_n 1, 1) := dk_27 (dk_at dksJ2_grow_2_2 0 rfl rfl)
theorem dJ2_grow_2_49 : decode cJ2_grow_2 49 = .ok (.invokestatic 79, 3) := dk_184 0 79 (dk_at dksJ2_grow_2_2 1 rfl rfl)
theorem dJ2_grow_2_52 : decode cJ2_grow_2 52 = .ok (.anewarray 7, 3) := dk_189 0 7 (dk_at dksJ2_grow_2_2 4 rfl rfl)
theorem dJ2_grow_2_55 : decode cJ2_grow_2 55 = .ok (.dup_x1, 1) := dk_90 (dk_at dksJ2_grow_2_2 7 rfl rfl)
theorem dJ2_grow_2_56 : decode cJ2_grow_2 56 = .ok (.putfield 9, 3) := dk_181 0 9 (dk_at dksJ2_grow_2_2 8 rfl rfl)
theorem dJ2_grow_2_59 : decode cJ2_grow_2 59 = .ok (.areturn, 1) := dk_176 (dk_at dksJ2_grow_2_2 11 rfl rfl)
abbrev cJ2_size : ByteArray := prog_43_method_8_code
def yJ2_size : MethodName := ⟨RJ2, "size", "()I"⟩
theorem dJ2_size_0 : decode cJ2_size 0 = .ok (.aload_n 0, 1) := by decide +kernel
theorem dJ2_size_1 : decode cJ2_size 1 = .ok (.getfield 48, 3) := by decide +kernel
theorem dJ2_size_4 : decode cJ2_size 4 = .ok (.ireturn, 1) := by decide +kernel
abbrev cJ2_get : ByteArray := prog_43_method_20_code
def yJ2_get : MethodName := ⟨RJ2, "get", "(I)Ljava/lang/Object;"⟩
def dkwJ2_get_0 : List UInt8 := [27, 42, 180, 0, 48, 184, 0, 118, 87, 42, 27, 182, 0, 123, 176]
abbrev dktJ2_get_0 : List UInt8 := dkwJ2_get_0 ++ []
theorem dksJ2_get_0 : cJ2_get.data.toList.drop 0 = dktJ2_get_0 := by decide +kernel
theorem dJ2_get_0 : decode cJ2_get 0 = .ok (.iload_n 1, 1) := dk_27 (dk_at dksJ2_get_0 0 rfl rfl)
theorem dJ2_get_1 : decode cJ2_get 1 = .ok (.aload_n 0, 1) := dk_42 (dk_at dksJ2_get_0 1 rfl rfl)
theorem dJ2_get_2 : decode cJ2_get 2 = .ok (.getfield 48, 3) := dk_180 0 48 (dk_at dksJ2_get_0 2 rfl rfl)
theorem dJ2_get_5 : decode cJ2_get 5 = .ok (.invokestatic 118, 3) := dk_184 0 118 (dk_at dksJ2_get_0 5 rfl rfl)
theorem dJ2_get_8 : decode cJ2_get 8 = .ok (.pop, 1) := dk_87 (dk_at dksJ2_get_0 8 rfl rfl)
theorem dJ2_get_9 : decode cJ2_get 9 = .ok (.aload_n 0, 1) := dk_42 (dk_at dksJ2_get_0 9 rfl rfl)
theorem dJ2_get_10 : decode cJ2_get 10 = .ok (.iload_n 1, 1) := dk_27 (dk_at dksJ2_get_0 10 rfl rfl)
theorem dJ2_get_11 : decode cJ2_get 11 = .ok (.invokevirtual 123, 3) := dk_182 0 123 (dk_at dksJ2_get_0 11 rfl rfl)
theorem dJ2_get_14 : decode cJ2_get 14 = .ok (.areturn, 1) := dk_176 (dk_at dksJ2_get_0 14 rfl rfl)
abbrev cJ2_elementData : ByteArray := prog_43_method_18_code
def yJ2_elementData : MethodName := ⟨RJ2, "elementData", "(I)Ljava/lang/Object;"⟩
def dkwJ2_elementData_0 : List UInt8 := [42, 180, 0, 9, 27, 50, 176]
abbrev dktJ2_elementData_0 : List UInt8 := dkwJ2_elementData_0 ++ []
theorem dksJ2_elementData_0 : cJ2_elementData.data.toList.drop 0 = dktJ2_elementData_0 := by decide +kernel
theorem dJ2_elementData_0 : decode cJ2_elementData 0 = .ok (.aload_n 0, 1) := dk_42 (dk_at dksJ2_elementData_0 0 rfl rfl)
theorem dJ2_elementData_1 : decode cJ2_elementData 1 = .ok (.getfield 9, 3) := dk_180 0 9 (dk_at dksJ2_elementData_0 1 rfl rfl)
theorem dJ2_elementData_4 : decode cJ2_elementData 4 = .ok (.iload_n 1, 1) := dk_27 (dk_at dksJ2_elementData_0 4 rfl rfl)
theorem dJ2_elementData_5 : decode cJ2_elementData 5 = .ok (.aaload, 1) := dk_50 (dk_at dksJ2_elementData_0 5 rfl rfl)
theorem dJ2_elementData_6 : decode cJ2_elementData 6 = .ok (.areturn, 1) := dk_176 (dk_at dksJ2_elementData_0 6 rfl rfl)
theorem q103 : (Jvm.Cond.initialized "java/util/ArrayList") ∈ lw_all := lw_g (lw_at lw_m1 6 rfl) rfl
theorem q178 : (Jvm.Cond.instantiable "java/util/ArrayList" (3 : Nat)) ∈ lw_all := lw_g (lw_at lw_m1 81 rfl) rfl
theorem q180 : (Jvm.Cond.instanceMethod ({ cls := "java/util/ArrayList", name := "<init>", desc := "()V" } : Jvm.MethodName)) ∈ lw_all := lw_g (lw_at lw_m1 83 rfl) rfl
theorem q181 : (Jvm.Cond.code ({ cls := "java/util/ArrayList", name := "<init>", desc := "()V" } : Jvm.MethodName) prog_43_method_2_code (1 : Nat) (Option.none : Option Jvm.ClassFile.FieldType)) ∈ lw_all := lw_g (lw_at lw_m1 84 rfl) rfl
theorem q182 : (Jvm.Cond.methodLink "java/util/ArrayList" (1 : Nat) ({ cls := "java/util/AbstractList", name := "<init>", desc := "()V" } : Jvm.MethodName)) ∈ lw_all := lw_g (lw_at lw_m1 85 rfl) rfl
theorem q189 : (Jvm.Cond.fieldLink "java/util/ArrayList" (39 : Nat) "java/util/ArrayList" "DEFAULTCAPACITY_EMPTY_ELEMENTDATA" "[Ljava/lang/Object;") ∈ lw_all := lw_g (lw_at lw_m1 92 rfl) rfl
theorem q190 : (Jvm.Cond.laysStatic "java/util/ArrayList" "DEFAULTCAPACITY_EMPTY_ELEMENTDATA" "[Ljava/lang/Object;") ∈ lw_tbl := lw_at lw_m1 93 rfl
theorem q191 : (Jvm.Cond.fieldLink "java/util/ArrayList" (9 : Nat) "java/util/ArrayList" "elementData" "[Ljava/lang/Object;") ∈ lw_all := lw_g (lw_at lw_m1 94 rfl) rfl
theorem q194 : (Jvm.Cond.fieldLink "java/util/ArrayList" (48 : Nat) "java/util/ArrayList" "size" "I") ∈ lw_all := lw_g (lw_at lw_m1 97 rfl) rfl
theorem q197 : (Jvm.Cond.sameField "java/util/ArrayList" "java/util/AbstractList" "modCount" "I") ∈ lw_all := lw_g (lw_at lw_m1 100 rfl) rfl
theorem q198 : (Jvm.Cond.fieldLink "java/util/ArrayList" (63 : Nat) "java/util/ArrayList" "modCount" "I") ∈ lw_all := lw_g (lw_at lw_m1 101 rfl) rfl
theorem q199 : (Jvm.Cond.lays "java/util/ArrayList" "java/util/ArrayList" "elementData" "[Ljava/lang/Object;") ∈ lw_all := lw_g (lw_at lw_m1 102 rfl) rfl
theorem q200 : (Jvm.Cond.soleField "java/util/ArrayList" "elementData") ∈ lw_all := lw_g (lw_at lw_m1 103 rfl) rfl
theorem q201 : (Jvm.Cond.lays "java/util/ArrayList" "java/util/ArrayList" "size" "I") ∈ lw_all := lw_g (lw_at lw_m1 104 rfl) rfl
theorem q202 : (Jvm.Cond.soleField "java/util/ArrayList" "size") ∈ lw_all := lw_g (lw_at lw_m1 105 rfl) rfl
theorem q203 : (Jvm.Cond.lays "java/util/ArrayList" "java/util/AbstractList" "modCount" "I") ∈ lw_all := lw_g (lw_at lw_m1 106 rfl) rfl
theorem q205 : (Jvm.Cond.superclass "java/util/ArrayList" "java/util/AbstractList") ∈ lw_all := lw_g (lw_at lw_m1 108 rfl) rfl
theorem q443 : (Jvm.Cond.instanceMethod ({ cls := "java/util/ArrayList", name := "iterator", desc := "()Ljava/util/Iterator;" } : Jvm.MethodName)) ∈ lw_all := lw_g (lw_at lw_m2 106 rfl) rfl
theorem q444 : (Jvm.Cond.selects "java/util/ArrayList" ({ cls := "java/util/ArrayList", name := "iterator", desc := "()Ljava/util/Iterator;" } : Jvm.MethodName) ({ cls := "java/util/ArrayList", name := "iterator", desc := "()Ljava/util/Iterator;" } : Jvm.MethodName)) ∈ lw_all := lw_g (lw_at lw_m2 107 rfl) rfl
theorem q445 : (Jvm.Cond.code ({ cls := "java/util/ArrayList", name := "iterator", desc := "()Ljava/util/Iterator;" } : Jvm.MethodName) prog_43_method_55_code (1 : Nat) (Option.some (Jvm.ClassFile.FieldType.object "java/util/Iterator"))) ∈ lw_all := lw_g (lw_at lw_m2 108 rfl) rfl
theorem q446 : (Jvm.Cond.classLink "java/util/ArrayList" (267 : Nat) "java/util/ArrayList$Itr") ∈ lw_all := lw_g (lw_at lw_m2 109 rfl) rfl
theorem q448 : (Jvm.Cond.methodLink "java/util/ArrayList" (269 : Nat) ({ cls := "java/util/ArrayList$Itr", name := "<init>", desc := "(Ljava/util/ArrayList;)V" } : Jvm.MethodName)) ∈ lw_all := lw_g (lw_at lw_m2 111 rfl) rfl
theorem q723 : (Jvm.Cond.castable "java/util/ArrayList" "java/util/Collection") ∈ lw_tbl := lw_at lw_m3 146 rfl
theorem q724 : (Jvm.Cond.selects "java/util/ArrayList" ({ cls := "java/util/Collection", name := "iterator", desc := "()Ljava/util/Iterator;" } : Jvm.MethodName) ({ cls := "java/util/ArrayList", name := "iterator", desc := "()Ljava/util/Iterator;" } : Jvm.MethodName)) ∈ lw_all := lw_g (lw_at lw_m3 147 rfl) rfl
theorem q725 : (Jvm.Cond.unhidden "java/util/ArrayList" "iterator" "()Ljava/util/Iterator;") ∈ lw_tbl := lw_at lw_m3 148 rfl
theorem q726 : (Jvm.Cond.publicMethod ({ cls := "java/util/ArrayList", name := "iterator", desc := "()Ljava/util/Iterator;" } : Jvm.MethodName)) ∈ lw_tbl := lw_at lw_m3 149 rfl
theorem q1119 : (Jvm.Cond.selects "java/util/ArrayList" ({ cls := "java/lang/Object", name := "getClass", desc := "()Ljava/lang/Class;" } : Jvm.MethodName) ({ cls := "java/lang/Object", name := "getClass", desc := "()Ljava/lang/Class;" } : Jvm.MethodName)) ∈ lw_all := lw_g (lw_at lw_m5 62 rfl) rfl
theorem q1508 : (Jvm.Cond.instanceMethod ({ cls := "java/util/ArrayList", name := "add", desc := "(Ljava/lang/Object;)Z" } : Jvm.MethodName)) ∈ lw_all := lw_g (lw_at lw_m6 211 rfl) rfl
theorem q1509 : (Jvm.Cond.selects "java/util/ArrayList" ({ cls := "java/util/ArrayList", name := "add", desc := "(Ljava/lang/Object;)Z" } : Jvm.MethodName) ({ cls := "java/util/ArrayList", name := "add", desc := "(Ljava/lang/Object;)Z" } : Jvm.MethodName)) ∈ lw_all := lw_g (lw_at lw_m6 212 rfl) rfl
theorem q1510 : (Jvm.Cond.code ({ cls := "java/util/ArrayList", name := "add", desc := "(Ljava/lang/Object;)Z" } : Jvm.MethodName) prog_43_method_25_code (2 : Nat) (Option.some Jvm.ClassFile.FieldType.boolean)) ∈ lw_all := lw_g (lw_at lw_m6 213 rfl) rfl
theorem q1511 : (Jvm.Cond.methodLink "java/util/ArrayList" (131 : Nat) ({ cls := "java/util/ArrayList", name := "add", desc := "(Ljava/lang/Object;[Ljava/lang/Object;I)V" } : Jvm.MethodName)) ∈ lw_all := lw_g (lw_at lw_m6 214 rfl) rfl
theorem q1512 : (Jvm.Cond.privateMethod ({ cls := "java/util/ArrayList", name := "add", desc := "(Ljava/lang/Object;[Ljava/lang/Object;I)V" } : Jvm.MethodName)) ∈ lw_tbl := lw_at lw_m6 215 rfl
theorem q1513 : (Jvm.Cond.instanceMethod ({ cls := "java/util/ArrayList", name := "add", desc := "(Ljava/lang/Object;[Ljava/lang/Object;I)V" } : Jvm.MethodName)) ∈ lw_all := lw_g (lw_at lw_m6 216 rfl) rfl
theorem q1514 : (Jvm.Cond.code ({ cls := "java/util/ArrayList", name := "add", desc := "(Ljava/lang/Object;[Ljava/lang/Object;I)V" } : Jvm.MethodName) prog_43_method_24_code (4 : Nat) (Option.none : Option Jvm.ClassFile.FieldType)) ∈ lw_all := lw_g (lw_at lw_m6 217 rfl) rfl
theorem q1515 : (Jvm.Cond.methodLink "java/util/ArrayList" (129 : Nat) ({ cls := "java/util/ArrayList", name := "grow", desc := "()[Ljava/lang/Object;" } : Jvm.MethodName)) ∈ lw_all := lw_g (lw_at lw_m6 218 rfl) rfl
theorem q1516 : (Jvm.Cond.privateMethod ({ cls := "java/util/ArrayList", name := "grow", desc := "()[Ljava/lang/Object;" } : Jvm.MethodName)) ∈ lw_tbl := lw_at lw_m6 219 rfl
theorem q1517 : (Jvm.Cond.instanceMethod ({ cls := "java/util/ArrayList", name := "grow", desc := "()[Ljava/lang/Object;" } : Jvm.MethodName)) ∈ lw_all := lw_g (lw_at lw_m6 220 rfl) rfl
theorem q1518 : (Jvm.Cond.code ({ cls := "java/util/ArrayList", name := "grow", desc := "()[Ljava/lang/Object;" } : Jvm.MethodName) prog_43_method_7_code (1 : Nat) (Option.some (Jvm.ClassFile.FieldType.array (Jvm.ClassFile.FieldType.object "java/lang/Object")))) ∈ lw_all := lw_g (lw_at lw_m6 221 rfl) rfl
theorem q1519 : (Jvm.Cond.methodLink "java/util/ArrayList" (69 : Nat) ({ cls := "java/util/ArrayList", name := "grow", desc := "(I)[Ljava/lang/Object;" } : Jvm.MethodName)) ∈ lw_all := lw_g (lw_at lw_m6 222 rfl) rfl
theorem q1520 : (Jvm.Cond.privateMethod ({ cls := "java/util/ArrayList", name := "grow", desc := "(I)[Ljava/lang/Object;" } : Jvm.MethodName)) ∈ lw_tbl := lw_at lw_m6 223 rfl
theorem q1521 : (Jvm.Cond.instanceMethod ({ cls := "java/util/ArrayList", name := "grow", desc := "(I)[Ljava/lang/Object;" } : Jvm.MethodName)) ∈ lw_all := lw_g (lw_at lw_m6 224 rfl) rfl
theorem q1522 : (Jvm.Cond.code ({ cls := "java/util/ArrayList", name := "grow", desc := "(I)[Ljava/lang/Object;" } : Jvm.MethodName) prog_43_method_6_code (4 : Nat) (Option.some (Jvm.ClassFile.FieldType.array (Jvm.ClassFile.FieldType.object "java/lang/Object")))) ∈ lw_all := lw_g (lw_at lw_m6 225 rfl) rfl
theorem q1523 : (Jvm.Cond.methodLink "java/util/ArrayList" (73 : Nat) ({ cls := "jdk/internal/util/ArraysSupport", name := "newLength", desc := "(III)I" } : Jvm.MethodName)) ∈ lw_all := lw_g (lw_at lw_m6 226 rfl) rfl
theorem q1533 : (Jvm.Cond.methodLink "java/util/ArrayList" (66 : Nat) ({ cls := "java/util/Arrays", name := "copyOf", desc := "([Ljava/lang/Object;I)[Ljava/lang/Object;" } : Jvm.MethodName)) ∈ lw_all := lw_g (lw_at lw_m6 236 rfl) rfl
theorem q1546 : (Jvm.Cond.methodLink "java/util/ArrayList" (79 : Nat) ({ cls := "java/lang/Math", name := "max", desc := "(II)I" } : Jvm.MethodName)) ∈ lw_all := lw_g (lw_at lw_m7 9 rfl) rfl
theorem q1547 : (Jvm.Cond.classLink "java/util/ArrayList" (7 : Nat) "java/lang/Object") ∈ lw_all := lw_g (lw_at lw_m7 10 rfl) rfl
theorem q1727 : (Jvm.Cond.instanceMethod ({ cls := "java/util/ArrayList", name := "size", desc := "()I" } : Jvm.MethodName)) ∈ lw_all := lw_g (lw_at lw_m7 190 rfl) rfl
theorem q1728 : (Jvm.Cond.selects "java/util/ArrayList" ({ cls := "java/util/ArrayList", name := "size", desc := "()I" } : Jvm.MethodName) ({ cls := "java/util/ArrayList", name := "size", desc := "()I" } : Jvm.MethodName)) ∈ lw_all := lw_g (lw_at lw_m7 191 rfl) rfl
theorem q1729 : (Jvm.Cond.code ({ cls := "java/util/ArrayList", name := "size", desc := "()I" } : Jvm.MethodName) prog_43_method_8_code (1 : Nat) (Option.some Jvm.ClassFile.FieldType.int)) ∈ lw_all := lw_g (lw_at lw_m7 192 rfl) rfl
theorem q1752 : (Jvm.Cond.instanceMethod ({ cls := "java/util/ArrayList", name := "get", desc := "(I)Ljava/lang/Object;" } : Jvm.MethodName)) ∈ lw_all := lw_g (lw_at lw_m7 215 rfl) rfl
theorem q1753 : (Jvm.Cond.selects "java/util/ArrayList" ({ cls := "java/util/ArrayList", name := "get", desc := "(I)Ljava/lang/Object;" } : Jvm.MethodName) ({ cls := "java/util/ArrayList", name := "get", desc := "(I)Ljava/lang/Object;" } : Jvm.MethodName)) ∈ lw_all := lw_g (lw_at lw_m7 216 rfl) rfl
theorem q1754 : (Jvm.Cond.code ({ cls := "java/util/ArrayList", name := "get", desc := "(I)Ljava/lang/Object;" } : Jvm.MethodName) prog_43_method_20_code (2 : Nat) (Option.some (Jvm.ClassFile.FieldType.object "java/lang/Object"))) ∈ lw_all := lw_g (lw_at lw_m7 217 rfl) rfl
theorem q1755 : (Jvm.Cond.methodLink "java/util/ArrayList" (118 : Nat) ({ cls := "java/util/Objects", name := "checkIndex", desc := "(II)I" } : Jvm.MethodName)) ∈ lw_all := lw_g (lw_at lw_m7 218 rfl) rfl
theorem q1761 : (Jvm.Cond.methodLink "java/util/ArrayList" (123 : Nat) ({ cls := "java/util/ArrayList", name := "elementData", desc := "(I)Ljava/lang/Object;" } : Jvm.MethodName)) ∈ lw_all := lw_g (lw_at lw_m7 224 rfl) rfl
theorem q1762 : (Jvm.Cond.instanceMethod ({ cls := "java/util/ArrayList", name := "elementData", desc := "(I)Ljava/lang/Object;" } : Jvm.MethodName)) ∈ lw_all := lw_g (lw_at lw_m7 225 rfl) rfl
theorem q1763 : (Jvm.Cond.selects "java/util/ArrayList" ({ cls := "java/util/ArrayList", name := "elementData", desc := "(I)Ljava/lang/Object;" } : Jvm.MethodName) ({ cls := "java/util/ArrayList", name := "elementData", desc := "(I)Ljava/lang/Object;" } : Jvm.MethodName)) ∈ lw_all := lw_g (lw_at lw_m7 226 rfl) rfl
theorem q1764 : (Jvm.Cond.code ({ cls := "java/util/ArrayList", name := "elementData", desc := "(I)Ljava/lang/Object;" } : Jvm.MethodName) prog_43_method_18_code (2 : Nat) (Option.some (Jvm.ClassFile.FieldType.object "java/lang/Object"))) ∈ lw_all := lw_g (lw_at lw_m7 227 rfl) rfl
theorem q1811 : (Jvm.Cond.selects "java/util/ArrayList" ({ cls := "java/util/Collection", name := "contains", desc := "(Ljava/lang/Object;)Z" } : Jvm.MethodName) ({ cls := "java/util/ArrayList", name := "contains", desc := "(Ljava/lang/Object;)Z" } : Jvm.MethodName)) ∈ lw_all := lw_g (lw_at lw_m8 34 rfl) rfl
theorem q1812 : (Jvm.Cond.unhidden "java/util/ArrayList" "contains" "(Ljava/lang/Object;)Z") ∈ lw_tbl := lw_at lw_m8 35 rfl
theorem q1813 : (Jvm.Cond.instanceMethod ({ cls := "java/util/ArrayList", name := "contains", desc := "(Ljava/lang/Object;)Z" } : Jvm.MethodName)) ∈ lw_all := lw_g (lw_at lw_m8 36 rfl) rfl
theorem q1814 : (Jvm.Cond.publicMethod ({ cls := "java/util/ArrayList", name := "contains", desc := "(Ljava/lang/Object;)Z" } : Jvm.MethodName)) ∈ lw_tbl := lw_at lw_m8 37 rfl
theorem q1815 : (Jvm.Cond.code ({ cls := "java/util/ArrayList", name := "contains", desc := "(Ljava/lang/Object;)Z" } : Jvm.MethodName) prog_43_method_10_code (2 : Nat) (Option.some Jvm.ClassFile.FieldType.boolean)) ∈ lw_all := lw_g (lw_at lw_m8 38 rfl) rfl
theorem q1816 : (Jvm.Cond.methodLink "java/util/ArrayList" (85 : Nat) ({ cls := "java/util/ArrayList", name := "indexOf", desc := "(Ljava/lang/Object;)I" } : Jvm.MethodName)) ∈ lw_all := lw_g (lw_at lw_m8 39 rfl) rfl
theorem q1817 : (Jvm.Cond.instanceMethod ({ cls := "java/util/ArrayList", name := "indexOf", desc := "(Ljava/lang/Object;)I" } : Jvm.MethodName)) ∈ lw_all := lw_g (lw_at lw_m8 40 rfl) rfl
theorem q1818 : (Jvm.Cond.selects "java/util/ArrayList" ({ cls := "java/util/ArrayList", name := "indexOf", desc := "(Ljava/lang/Object;)I" } : Jvm.MethodName) ({ cls := "java/util/ArrayList", name := "indexOf", desc := "(Ljava/lang/Object;)I" } : Jvm.MethodName)) ∈ lw_all := lw_g (lw_at lw_m8 41 rfl) rfl
theorem q1819 : (Jvm.Cond.code ({ cls := "java/util/ArrayList", name := "indexOf", desc := "(Ljava/lang/Object;)I" } : Jvm.MethodName) prog_43_method_11_code (2 : Nat) (Option.some Jvm.ClassFile.FieldType.int)) ∈ lw_all := lw_g (lw_at lw_m8 42 rfl) rfl
theorem q1820 : (Jvm.Cond.methodLink "java/util/ArrayList" (89 : Nat) ({ cls := "java/util/ArrayList", name := "indexOfRange", desc := "(Ljava/lang/Object;II)I" } : Jvm.MethodName)) ∈ lw_all := lw_g (lw_at lw_m8 43 rfl) rfl
theorem q1821 : (Jvm.Cond.instanceMethod ({ cls := "java/util/ArrayList", name := "indexOfRange", desc := "(Ljava/lang/Object;II)I" } : Jvm.MethodName)) ∈ lw_all := lw_g (lw_at lw_m8 44 rfl) rfl
theorem q1822 : (Jvm.Cond.selects "java/util/ArrayList" ({ cls := "java/util/ArrayList", name := "indexOfRange", desc := "(Ljava/lang/Object;II)I" } : Jvm.MethodName) ({ cls := "java/util/ArrayList", name := "indexOfRange", desc := "(Ljava/lang/Object;II)I" } : Jvm.MethodName)) ∈ lw_all := lw_g (lw_at lw_m8 45 rfl) rfl
theorem q1823 : (Jvm.Cond.code ({ cls := "java/util/ArrayList", name := "indexOfRange", desc := "(Ljava/lang/Object;II)I" } : Jvm.MethodName) prog_43_method_12_code (6 : Nat) (Option.some Jvm.ClassFile.FieldType.int)) ∈ lw_all := lw_g (lw_at lw_m8 46 rfl) rfl
theorem q1824 : (Jvm.Cond.methodLink "java/util/ArrayList" (93 : Nat) ({ cls := "java/lang/Object", name := "equals", desc := "(Ljava/lang/Object;)Z" } : Jvm.MethodName)) ∈ lw_all := lw_g (lw_at lw_m8 47 rfl) rfl
theorem q2419 : (Jvm.Cond.castable "java/util/ArrayList" "java/util/List") ∈ lw_tbl := lw_at lw_m10 162 rfl
theorem q2420 : (Jvm.Cond.selects "java/util/ArrayList" ({ cls := "java/util/List", name := "size", desc := "()I" } : Jvm.MethodName) ({ cls := "java/util/ArrayList", name := "size", desc := "()I" } : Jvm.MethodName)) ∈ lw_all := lw_g (lw_at lw_m10 163 rfl) rfl
theorem q2421 : (Jvm.Cond.unhidden "java/util/ArrayList" "size" "()I") ∈ lw_tbl := lw_at lw_m10 164 rfl
theorem q2422 : (Jvm.Cond.publicMethod ({ cls := "java/util/ArrayList", name := "size", desc := "()I" } : Jvm.MethodName)) ∈ lw_tbl := lw_at lw_m10 165 rfl
theorem q2437 : (Jvm.Cond.selects "java/util/ArrayList" ({ cls := "java/util/List", name := "get", desc := "(I)Ljava/lang/Object;" } : Jvm.MethodName) ({ cls := "java/util/ArrayList", name := "get", desc := "(I)Ljava/lang/Object;" } : Jvm.MethodName)) ∈ lw_all := lw_g (lw_at lw_m10 180 rfl) rfl
theorem q2438 : (Jvm.Cond.unhidden "java/util/ArrayList" "get" "(I)Ljava/lang/Object;") ∈ lw_tbl := lw_at lw_m10 181 rfl
theorem q2439 : (Jvm.Cond.publicMethod ({ cls := "java/util/ArrayList", name := "get", desc := "(I)Ljava/lang/Object;" } : Jvm.MethodName)) ∈ lw_tbl := lw_at lw_m10 182 rfl
theorem q3175 : (Jvm.Cond.castable "java/util/ArrayList" "java/lang/Object") ∈ lw_tbl := lw_at lw_m13 198 rfl
theorem in_J2 : ∀ w ∈ wsJ20, w ∈ lw_all := lw_in wsJ20 [203, 199, 201] (by decide +kernel) (by decide +kernel)
/-! java/util/AbstractMap -/
set_option maxRecDepth 100000
def RJ3 : String := "java/util/AbstractMap"
abbrev cJ3_init : ByteArray := prog_38_method_1_code
def yJ3_init : MethodName := ⟨RJ3, "<init>", "()V"⟩
theorem dJ3_init_0 : decode cJ3_init 0 = .ok (.aload_n 0, 1) := by decide +kernel
theorem dJ3_init_1 : decode cJ3_init 1 = .ok (.invokespecial 1, 3) := by decide +kernel
theorem dJ3_init_4 : decode cJ3_init 4 = .ok (.return_, 1) := by decide +kernel
theorem q104 : (Jvm.Cond.initialized "java/util/AbstractMap") ∈ lw_all := lw_g (lw_at lw_m1 7 rfl) rfl
theorem q225 : (Jvm.Cond.instanceMethod ({ cls := "java/util/AbstractMap", name := "<init>", desc := "()V" } : Jvm.MethodName)) ∈ lw_all := lw_g (lw_at lw_m1 128 rfl) rfl
theorem q226 : (Jvm.Cond.code ({ cls := "java/util/AbstractMap", name := "<init>", desc := "()V" } : Jvm.MethodName) prog_38_method_1_code (1 : Nat) (Option.none : Option Jvm.ClassFile.FieldType)) ∈ lw_all := lw_g (lw_at lw_m1 129 rfl) rfl
theorem q227 : (Jvm.Cond.methodLink "java/util/AbstractMap" (1 : Nat) ({ cls := "java/lang/Object", name := "<init>", desc := "()V" } : Jvm.MethodName)) ∈ lw_all := lw_g (lw_at lw_m1 130 rfl) rfl
theorem q273 : (Jvm.Cond.soleField "java/util/AbstractMap" "keySet") ∈ lw_all := lw_g (lw_at lw_m1 176 rfl) rfl
theorem q275 : (Jvm.Cond.soleField "java/util/AbstractMap" "values") ∈ lw_all := lw_g (lw_at lw_m1 178 rfl) rfl
/-! java/util/HashMap -/
set_option maxRecDepth 100000
def RJ4 : String := "java/util/HashMap"
abbrev cJ4_init : ByteArray := prog_49_method_7_code
def yJ4_init : MethodName := ⟨RJ4, "<init>", "()V"⟩
def dkwJ4_init_0 : List UInt8 := [42, 183, 0, 43, 42, 18, 92, 181, 0, 81, 177]
abbrev dktJ4_init_0 : List UInt8 := dkwJ4_init_0 ++ []
theorem dksJ4_init_0 : cJ4_init.data.toList.drop 0 = dktJ4_init_0 := by decide +kernel
theorem dJ4_init_0 : decode cJ4_init 0 = .ok (.aload_n 0, 1) := dk_42 (dk_at dksJ4_init_0 0 rfl rfl)
theorem dJ4_init_1 : decode cJ4_init 1 = .ok (.invokespecial 43, 3) := dk_183 0 43 (dk_at dksJ4_init_0 1 rfl rfl)
theorem dJ4_init_4 : decode cJ4_init 4 = .ok (.aload_n 0, 1) := dk_42 (dk_at dksJ4_init_0 4 rfl rfl)
theorem dJ4_init_5 : decode cJ4_init 5 = .ok (.ldc 92, 2) := dk_18 92 (dk_at dksJ4_init_0 5 rfl rfl)
theorem dJ4_init_7 : decode cJ4_init 7 = .ok (.putfield 81, 3) := dk_181 0 81 (dk_at dksJ4_init_0 7 rfl rfl)
theorem dJ4_init_10 : decode cJ4_init 10 = .ok (.return_, 1) := dk_177 (dk_at dksJ4_init_0 10 rfl rfl)
abbrev cJ4_init_2 : ByteArray := prog_49_method_5_code
def yJ4_init_2 : MethodName := ⟨RJ4, "<init>", "(IF)V"⟩
def dkwJ4_init_2_4 : List UInt8 := [181, 0, 88, 177]
abbrev dktJ4_init_2_4 : List UInt8 := dkwJ4_init_2_4 ++ []
def dkwJ4_init_2_3 : List UInt8 := [182, 0, 56, 36, 182, 0, 78, 182, 0, 63, 183, 0, 67, 191, 42, 36, 181, 0, 81, 42, 27, 184, 0, 85]
abbrev dktJ4_init_2_3 : List UInt8 := dkwJ4_init_2_3 ++ dktJ4_init_2_4
def dkwJ4_init_2_2 : List UInt8 := [158, 0, 10, 36, 184, 0, 70, 153, 0, 30, 187, 0, 49, 89, 187, 0, 51, 89, 183, 0, 53, 18, 76]
abbrev dktJ4_init_2_2 : List UInt8 := dkwJ4_init_2_2 ++ dktJ4_init_2_3
def dkwJ4_init_2_1 : List UInt8 := [27, 182, 0, 60, 182, 0, 63, 183, 0, 67, 191, 27, 18, 42, 164, 0, 6, 18, 42, 60, 36, 11, 150]
abbrev dktJ4_init_2_1 : List UInt8 := dkwJ4_init_2_1 ++ dktJ4_init_2_2
def dkwJ4_init_2_0 : List UInt8 := [42, 183, 0, 43, 27, 156, 0, 30, 187, 0, 49, 89, 187, 0, 51, 89, 183, 0, 53, 18, 54, 182, 0, 56]
abbrev dktJ4_init_2_0 : List UInt8 := dkwJ4_init_2_0 ++ dktJ4_init_2_1
theorem dksJ4_init_2_0 : cJ4_init_2.data.toList.drop 0 = dktJ4_init_2_0 := by decide +kernel
theorem dksJ4_init_2_1 : cJ4_init_2.data.toList.drop 24 = dktJ4_init_2_1 := dk_seg dksJ4_init_2_0 24 rfl rfl
theorem dksJ4_init_2_2 : cJ4_init_2.data.toList.drop 47 = dktJ4_init_2_2 := dk_seg dksJ4_init_2_1 23 rfl rfl
theorem dksJ4_init_2_3 : cJ4_init_2.data.toList.drop 70 = dktJ4_init_2_3 := dk_seg dksJ4_init_2_2 23 rfl rfl
theorem dksJ4_init_2_4 : cJ4_init_2.data.toList.drop 94 = dktJ4_init_2_4 := dk_seg dksJ4_init_2_3 24 rfl rfl
theorem dJ4_init_2_0 : decode cJ4_init_2 0 = .ok (.aload_n 0, 1) := dk_42 (dk_at dksJ4_init_2_0 0 rfl rfl)
theorem dJ4_init_2_1 : decode cJ4_init_2 1 = .ok (.invokespecial 43, 3) := dk_183 0 43 (dk_at dksJ4_init_2_0 1 rfl rfl)
theorem dJ4_init_2_4 : decode cJ4_init_2 4 = .ok (.iload_n 1, 1) := dk_27 (dk_at dksJ4_init_2_0 4 rfl rfl)
theorem dJ4_init_2_5 : decode cJ4_init_2 5 = .ok (.ifCond .ge 30, 3) := dk_156 0 30 (dk_at dksJ4_init_2_0 5 rfl rfl)
theorem dJ4_init_2_8 : decode cJ4_init_2 8 = .ok (.new 49, 3) := dk_187 0 49 (dk_at dksJ4_init_2_0 8 rfl rfl)
theorem dJ4_init_2_11 : decode cJ4_init_2 11 = .ok (.dup, 1) := dk_89 (dk_at dksJ4_init_2_0 11 rfl rfl)
theorem dJ4_init_2_12 : decode cJ4_init_2 12 = .ok (.new 51, 3) := dk_187 0 51 (dk_at dksJ4_init_2_0 12 rfl rfl)
theorem dJ4_init_2_15 : decode cJ4_init_2 15 = .ok (.dup, 1) := dk_89 (dk_at dksJ4_init_2_0 15 rfl rfl)
theorem dJ4_init_2_16 : decode cJ4_init_2 16 = .ok (.invokespecial 53, 3) := dk_183 0 53 (dk_at dksJ4_init_2_0 16 rfl rfl)
theorem dJ4_init_2_19 : decode cJ4_init_2 19 = .ok (.ldc 54, 2) := dk_18 54 (dk_at dksJ4_init_2_0 19 rfl rfl)
theorem dJ4_init_2_21 : decode cJ4_init_2 21 = .ok (.invokevirtual 56, 3) := dk_182 0 56 (dk_at dksJ4_init_2_0 21 rfl rfl)
theorem dJ4_init_2_24 : decode cJ4_init_2 24 = .ok (.iload_n 1, 1) := dk_27 (dk_at dksJ4_init_2_1 0 rfl rfl)
theorem dJ4_init_2_25 : decode cJ4_init_2 25 = .ok (.invokevirtual 60, 3) := dk_182 0 60 (dk_at dksJ4_init_2_1 1 rfl rfl)
theorem dJ4_init_2_28 : decode cJ4_init_2 28 = .ok (.invokevirtual 63, 3) := dk_182 0 63 (dk_at dksJ4_init_2_1 4 rfl rfl)
theorem dJ4_init_2_31 : decode cJ4_init_2 31 = .ok (.invokespecial 67, 3) := dk_183 0 67 (dk_at dksJ4_init_2_1 7 rfl rfl)
theorem dJ4_init_2_34 : decode cJ4_init_2 34 = .ok (.athrow, 1) := dk_191 (dk_at dksJ4_init_2_1 10 rfl rfl)
theorem dJ4_init_2_35 : decode cJ4_init_2 35 = .ok (.iload_n 1, 1) := dk_27 (dk_at dksJ4_init_2_1 11 rfl rfl)
theorem dJ4_init_2_36 : decode cJ4_init_2 36 = .ok (.ldc 42, 2) := dk_18 42 (dk_at dksJ4_init_2_1 12 rfl rfl)
theorem dJ4_init_2_38 : decode cJ4_init_2 38 = .ok (.if_icmp .le 6, 3) := dk_164 0 6 (dk_at dksJ4_init_2_1 14 rfl rfl)
theorem dJ4_init_2_41 : decode cJ4_init_2 41 = .ok (.ldc 42, 2) := dk_18 42 (dk_at dksJ4_init_2_1 17 rfl rfl)
theorem dJ4_init_2_43 : decode cJ4_init_2 43 = .ok (.istore_n 1, 1) := dk_60 (dk_at dksJ4_init_2_1 19 rfl rfl)
theorem dJ4_init_2_44 : decode cJ4_init_2 44 = .ok (.fload_n 2, 1) := dk_36 (dk_at dksJ4_init_2_1 20 rfl rfl)
theorem dJ4_init_2_45 : decode cJ4_init_2 45 = .ok (.fconst 0, 1) := dk_11 (dk_at dksJ4_init_2_1 21 rfl rfl)
theorem dJ4_init_2_46 : decode cJ4_init_2 46 = .ok (.fcmp .g, 1) := dk_150 (dk_at dksJ4_init_2_1 22 rfl rfl)
theorem dJ4_init_2_47 : decode cJ4_init_2 47 = .ok (.ifCond .le 10, 3) := dk_158 0 10 (dk_at dksJ4_init_2_2 0 rfl rfl)
theorem dJ4_init_2_50 : decode cJ4_init_2 50 = .ok (.fload_n 2, 1) := dk_36 (dk_at dksJ4_init_2_2 3 rfl rfl)
theorem dJ4_init_2_51 : decode cJ4_init_2 51 = .ok (.invokestatic 70, 3) := dk_184 0 70 (dk_at dksJ4_init_2_2 4 rfl rfl)
theorem dJ4_init_2_54 : decode cJ4_init_2 54 = .ok (.ifCond .eq 30, 3) := dk_153 0 30 (dk_at dksJ4_init_2_2 7 rfl rfl)
theorem dJ4_init_2_57 : decode cJ4_init_2 57 = .ok (.new 49, 3) := dk_187 0 49 (dk_at dksJ4_init_2_2 10 rfl rfl)
theorem dJ4_init_2_60 : decode cJ4_init_2 60 = .ok (.dup, 1) := dk_89 (dk_at dksJ4_init_2_2 13 rfl rfl)
theorem dJ4_init_2_61 : decode cJ4_init_2 61 = .ok (.new 51, 3) := dk_187 0 51 (dk_at dksJ4_init_2_2 14 rfl rfl)
theorem dJ4_init_2_64 : decode cJ4_init_2 64 = .ok (.dup, 1) := dk_89 (dk_at dksJ4_init_2_2 17 rfl rfl)
theorem dJ4_init_2_65 : decode cJ4_init_2 65 = .ok (.invokespecial 53, 3) := dk_183 0 53 (dk_at dksJ4_init_2_2 18 rfl rfl)
theorem dJ4_init_2_68 : decode cJ4_init_2 68 = .ok (.ldc 76, 2) := dk_18 76 (dk_at dksJ4_init_2_2 21 rfl rfl)
theorem dJ4_init_2_70 : decode cJ4_init_2 70 = .ok (.invokevirtual 56, 3) := dk_182 0 56 (dk_at dksJ4_init_2_3 0 rfl rfl)
theorem dJ4_init_2_73 : decode cJ4_init_2 73 = .ok (.fload_n 2, 1) := dk_36 (dk_at dksJ4_init_2_3 3 rfl rfl)
theorem dJ4_init_2_74 : decode cJ4_init_2 74 = .ok (.invokevirtual 78, 3) := dk_182 0 78 (dk_at dksJ4_init_2_3 4 rfl rfl)
theorem dJ4_init_2_77 : decode cJ4_init_2 77 = .ok (.invokevirtual 63, 3) := dk_182 0 63 (dk_at dksJ4_init_2_3 7 rfl rfl)
theorem dJ4_init_2_80 : decode cJ4_init_2 80 = .ok (.invokespecial 67, 3) := dk_183 0 67 (dk_at dksJ4_init_2_3 10 rfl rfl)
theorem dJ4_init_2_83 : decode cJ4_init_2 83 = .ok (.athrow, 1) := dk_191 (dk_at dksJ4_init_2_3 13 rfl rfl)
theorem dJ4_init_2_84 : decode cJ4_init_2 84 = .ok (.aload_n 0, 1) := dk_42 (dk_at dksJ4_init_2_3 14 rfl rfl)
theorem dJ4_init_2_85 : decode cJ4_init_2 85 = .ok (.fload_n 2, 1) := dk_36 (dk_at dksJ4_init_2_3 15 rfl rfl)
theorem dJ4_init_2_86 : decode cJ4_init_2 86 = .ok (.putfield 81, 3) := dk_181 0 81 (dk_at dksJ4_init_2_3 16 rfl rfl)
theorem dJ4_init_2_89 : decode cJ4_init_2 89 = .ok (.aload_n 0, 1) := dk_42 (dk_at dksJ4_init_2_3 19 rfl rfl)
theorem dJ4_init_2_90 : decode cJ4_init_2 90 = .ok (.iload_n 1, 1) := dk_27 (dk_at dksJ4_init_2_3 20 rfl rfl)
theorem dJ4_init_2_91 : decode cJ4_init_2 91 = .ok (.invokestatic 85, 3) := dk_184 0 85 (dk_at dksJ4_init_2_3 21 rfl rfl)
theorem dJ4_init_2_94 : decode cJ4_init_2 94 = .ok (.putfield 88, 3) := dk_181 0 88 (dk_at dksJ4_init_2_4 0 rfl rfl)
theorem dJ4_init_2_97 : decode cJ4_init_2 97 = .ok (.return_, 1) := dk_177 (dk_at dksJ4_init_2_4 3 rfl rfl)
abbrev cJ4_tableSizeFor : ByteArray := prog_49_method_4_code
def yJ4_tableSizeFor : MethodName := ⟨RJ4, "tableSizeFor", "(I)I"⟩
def dkwJ4_tableSizeFor_1 : List UInt8 := [18, 42, 167, 0, 6, 27, 4, 96, 172]
abbrev dktJ4_tableSizeFor_1 : List UInt8 := dkwJ4_tableSizeFor_1 ++ []
def dkwJ4_tableSizeFor_0 : List UInt8 := [2, 26, 4, 100, 184, 0, 34, 124, 60, 27, 156, 0, 7, 4, 167, 0, 17, 27, 18, 42, 161, 0, 8]
abbrev dktJ4_tableSizeFor_0 : List UInt8 := dkwJ4_tableSizeFor_0 ++ dktJ4_tableSizeFor_1
theorem dksJ4_tableSizeFor_0 : cJ4_tableSizeFor.data.toList.drop 0 = dktJ4_tableSizeFor_0 := by decide +kernel
theorem dksJ4_tableSizeFor_1 : cJ4_tableSizeFor.data.toList.drop 23 = dktJ4_tableSizeFor_1 := dk_seg dksJ4_tableSizeFor_0 23 rfl rfl
theorem dJ4_tableSizeFor_0 : decode cJ4_tableSizeFor 0 = .ok (.iconst (-1), 1) := dk_2 (dk_at dksJ4_tableSizeFor_0 0 rfl rfl)
theorem dJ4_tableSizeFor_1 : decode cJ4_tableSizeFor 1 = .ok (.iload_n 0, 1) := dk_26 (dk_at dksJ4_tableSizeFor_0 1 rfl rfl)
theorem dJ4_tableSizeFor_2 : decode cJ4_tableSizeFor 2 = .ok (.iconst 1, 1) := dk_4 (dk_at dksJ4_tableSizeFor_0 2 rfl rfl)
theorem dJ4_tableSizeFor_3 : decode cJ4_tableSizeFor 3 = .ok (.isub, 1) := dk_100 (dk_at dksJ4_tableSizeFor_0 3 rfl rfl)
theorem dJ4_tableSizeFor_4 : decode cJ4_tableSizeFor 4 = .ok (.invokestatic 34, 3) := dk_184 0 34 (dk_at dksJ4_tableSizeFor_0 4 rfl rfl)
theorem dJ4_tableSizeFor_7 : decode cJ4_tableSizeFor 7 = .ok (.iushr, 1) := dk_124 (dk_at dksJ4_tableSizeFor_0 7 rfl rfl)
theorem dJ4_tableSizeFor_8 : decode cJ4_tableSizeFor 8 = .ok (.istore_n 1, 1) := dk_60 (dk_at dksJ4_tableSizeFor_0 8 rfl rfl)
theorem dJ4_tableSizeFor_9 : decode cJ4_tableSizeFor 9 = .ok (.iload_n 1, 1) := dk_27 (dk_at dksJ4_tableSizeFor_0 9 rfl rfl)
theorem dJ4_tableSizeFor_10 : decode cJ4_tableSizeFor 10 = .ok (.ifCond .ge 7, 3) := dk_156 0 7 (dk_at dksJ4_tableSizeFor_0 10 rfl rfl)
theorem dJ4_tableSizeFor_13 : decode cJ4_tableSizeFor 13 = .ok (.iconst 1, 1) := dk_4 (dk_at dksJ4_tableSizeFor_0 13 rfl rfl)
theorem dJ4_tableSizeFor_14 : decode cJ4_tableSizeFor 14 = .ok (.goto 17, 3) := dk_167 0 17 (dk_at dksJ4_tableSizeFor_0 14 rfl rfl)
theorem dJ4_tableSizeFor_17 : decode cJ4_tableSizeFor 17 = .ok (.iload_n 1, 1) := dk_27 (dk_at dksJ4_tableSizeFor_0 17 rfl rfl)
theorem dJ4_tableSizeFor_18 : decode cJ4_tableSizeFor 18 = .ok (.ldc 42, 2) := dk_18 42 (dk_at dksJ4_tableSizeFor_0 18 rfl rfl)
theorem dJ4_tableSizeFor_20 : decode cJ4_tableSizeFor 20 = .ok (.if_icmp .lt 8, 3) := dk_161 0 8 (dk_at dksJ4_tableSizeFor_0 20 rfl rfl)
theorem dJ4_tableSizeFor_23 : decode cJ4_tableSizeFor 23 = .ok (.ldc 42, 2) := dk_18 42 (dk_at dksJ4_tableSizeFor_1 0 rfl rfl)
theorem dJ4_tableSizeFor_25 : decode cJ4_tableSizeFor 25 = .ok (.goto 6, 3) := dk_167 0 6 (dk_at dksJ4_tableSizeFor_1 2 rfl rfl)
theorem dJ4_tableSizeFor_28 : decode cJ4_tableSizeFor 28 = .ok (.iload_n 1, 1) := dk_27 (dk_at dksJ4_tableSizeFor_1 5 rfl rfl)
theorem dJ4_tableSizeFor_29 : decode cJ4_tableSizeFor 29 = .ok (.iconst 1, 1) := dk_4 (dk_at dksJ4_tableSizeFor_1 6 rfl rfl)
theorem dJ4_tableSizeFor_30 : decode cJ4_tableSizeFor 30 = .ok (.iadd, 1) := dk_96 (dk_at dksJ4_tableSizeFor_1 7 rfl rfl)
theorem dJ4_tableSizeFor_31 : decode cJ4_tableSizeFor 31 = .ok (.ireturn, 1) := dk_172 (dk_at dksJ4_tableSizeFor_1 8 rfl rfl)
abbrev cJ4_put : ByteArray := prog_49_method_15_code
def yJ4_put : MethodName := ⟨RJ4, "put", "(Ljava/lang/Object;Ljava/lang/Object;)Ljava/lang/Object;"⟩
def dkwJ4_put_0 : List UInt8 := [42, 43, 184, 0, 149, 43, 44, 3, 4, 182, 0, 152, 176]
abbrev dktJ4_put_0 : List UInt8 := dkwJ4_put_0 ++ []
theorem dksJ4_put_0 : cJ4_put.data.toList.drop 0 = dktJ4_put_0 := by decide +kernel
theorem dJ4_put_0 : decode cJ4_put 0 = .ok (.aload_n 0, 1) := dk_42 (dk_at dksJ4_put_0 0 rfl rfl)
theorem dJ4_put_1 : decode cJ4_put 1 = .ok (.aload_n 1, 1) := dk_43 (dk_at dksJ4_put_0 1 rfl rfl)
theorem dJ4_put_2 : decode cJ4_put 2 = .ok (.invokestatic 149, 3) := dk_184 0 149 (dk_at dksJ4_put_0 2 rfl rfl)
theorem dJ4_put_5 : decode cJ4_put 5 = .ok (.aload_n 1, 1) := dk_43 (dk_at dksJ4_put_0 5 rfl rfl)
theorem dJ4_put_6 : decode cJ4_put 6 = .ok (.aload_n 2, 1) := dk_44 (dk_at dksJ4_put_0 6 rfl rfl)
theorem dJ4_put_7 : decode cJ4_put 7 = .ok (.iconst 0, 1) := dk_3 (dk_at dksJ4_put_0 7 rfl rfl)
theorem dJ4_put_8 : decode cJ4_put 8 = .ok (.iconst 1, 1) := dk_4 (dk_at dksJ4_put_0 8 rfl rfl)
theorem dJ4_put_9 : decode cJ4_put 9 = .ok (.invokevirtual 152, 3) := dk_182 0 152 (dk_at dksJ4_put_0 9 rfl rfl)
theorem dJ4_put_12 : decode cJ4_put 12 = .ok (.areturn, 1) := dk_176 (dk_at dksJ4_put_0 12 rfl rfl)
abbrev cJ4_hash : ByteArray := prog_49_method_1_code
def yJ4_hash : MethodName := ⟨RJ4, "hash", "(Ljava/lang/Object;)I"⟩
def dkwJ4_hash_0 : List UInt8 := [42, 199, 0, 7, 3, 167, 0, 14, 42, 182, 0, 1, 89, 60, 27, 16, 16, 124, 130, 172]
abbrev dktJ4_hash_0 : List UInt8 := dkwJ4_hash_0 ++ []
theorem dksJ4_hash_0 : cJ4_hash.data.toList.drop 0 = dktJ4_hash_0 := by decide +kernel
theorem dJ4_hash_0 : decode cJ4_hash 0 = .ok (.aload_n 0, 1) := dk_42 (dk_at dksJ4_hash_0 0 rfl rfl)
theorem dJ4_hash_1 : decode cJ4_hash 1 = .ok (.ifnonnull 7, 3) := dk_199 0 7 (dk_at dksJ4_hash_0 1 rfl rfl)
theorem dJ4_hash_4 : decode cJ4_hash 4 = .ok (.iconst 0, 1) := dk_3 (dk_at dksJ4_hash_0 4 rfl rfl)
theorem dJ4_hash_5 : decode cJ4_hash 5 = .ok (.goto 14, 3) := dk_167 0 14 (dk_at dksJ4_hash_0 5 rfl rfl)
theorem dJ4_hash_8 : decode cJ4_hash 8 = .ok (.aload_n 0, 1) := dk_42 (dk_at dksJ4_hash_0 8 rfl rfl)
theorem dJ4_hash_9 : decode cJ4_hash 9 = .ok (.invokevirtual 1, 3) := dk_182 0 1 (dk_at dksJ4_hash_0 9 rfl rfl)
theorem dJ4_hash_12 : decode cJ4_hash 12 = .ok (.dup, 1) := dk_89 (dk_at dksJ4_hash_0 12 rfl rfl)
theorem dJ4_hash_13 : decode cJ4_hash 13 = .ok (.istore_n 1, 1) := dk_60 (dk_at dksJ4_hash_0 13 rfl rfl)
theorem dJ4_hash_14 : decode cJ4_hash 14 = .ok (.iload_n 1, 1) := dk_27 (dk_at dksJ4_hash_0 14 rfl rfl)
theorem dJ4_hash_15 : decode cJ4_hash 15 = .ok (.bipush 16, 2) := dk_16 16 (dk_at dksJ4_hash_0 15 rfl rfl)
theorem dJ4_hash_17 : decode cJ4_hash 17 = .ok (.iushr, 1) := dk_124 (dk_at dksJ4_hash_0 17 rfl rfl)
theorem dJ4_hash_18 : decode cJ4_hash 18 = .ok (.ixor, 1) := dk_130 (dk_at dksJ4_hash_0 18 rfl rfl)
theorem dJ4_hash_19 : decode cJ4_hash 19 = .ok (.ireturn, 1) := dk_172 (dk_at dksJ4_hash_0 19 rfl rfl)
abbrev cJ4_putVal : ByteArray := prog_49_method_16_code
def yJ4_putVal : MethodName := ⟨RJ4, "putVal", "(ILjava/lang/Object;Ljava/lang/Object;ZZ)Ljava/lang/Object;"⟩
def dkwJ4_putVal_12 : List UInt8 := [181, 0, 156, 42, 180, 0, 88, 164, 0, 8, 42, 182, 0, 117, 87, 42, 21, 5, 182, 0, 205, 1, 176]
abbrev dktJ4_putVal_12 : List UInt8 := dkwJ4_putVal_12 ++ []
def dkwJ4_putVal_11 : List UInt8 := [182, 0, 198, 25, 12, 176, 42, 89, 180, 0, 202, 4, 96, 181, 0, 202, 42, 89, 180, 0, 156, 4, 96, 90]
abbrev dktJ4_putVal_11 : List UInt8 := dkwJ4_putVal_11 ++ dktJ4_putVal_12
def dkwJ4_putVal_10 : List UInt8 := [180, 0, 162, 58, 12, 21, 4, 153, 0, 8, 25, 12, 199, 0, 9, 25, 10, 45, 181, 0, 162, 42, 25, 10]
abbrev dktJ4_putVal_10 : List UInt8 := dkwJ4_putVal_10 ++ dktJ4_putVal_11
def dkwJ4_putVal_9 : List UInt8 := [153, 0, 6, 167, 0, 13, 25, 10, 58, 7, 132, 12, 1, 167, 255, 171, 25, 10, 198, 0, 35, 25, 10]
abbrev dktJ4_putVal_9 : List UInt8 := dkwJ4_putVal_9 ++ dktJ4_putVal_10
def dkwJ4_putVal_8 : List UInt8 := [25, 10, 180, 0, 170, 89, 58, 11, 44, 165, 0, 29, 44, 198, 0, 15, 44, 25, 11, 182, 0, 173]
abbrev dktJ4_putVal_8 : List UInt8 := dkwJ4_putVal_8 ++ dktJ4_putVal_9
def dkwJ4_putVal_7 : List UInt8 := [16, 7, 161, 0, 60, 42, 25, 6, 27, 182, 0, 194, 167, 0, 50, 25, 10, 180, 0, 168, 27, 160, 0, 31]
abbrev dktJ4_putVal_7 : List UInt8 := dkwJ4_putVal_7 ++ dktJ4_putVal_8
def dkwJ4_putVal_6 : List UInt8 := [180, 0, 177, 89, 58, 10, 199, 0, 33, 25, 7, 42, 27, 44, 45, 1, 182, 0, 186, 181, 0, 177, 21, 12]
abbrev dktJ4_putVal_6 : List UInt8 := dkwJ4_putVal_6 ++ dktJ4_putVal_7
def dkwJ4_putVal_5 : List UInt8 := [192, 0, 180, 42, 25, 6, 27, 44, 45, 182, 0, 190, 58, 10, 167, 0, 94, 3, 54, 12, 25, 7]
abbrev dktJ4_putVal_5 : List UInt8 := dkwJ4_putVal_5 ++ dktJ4_putVal_6
def dkwJ4_putVal_4 : List UInt8 := [182, 0, 173, 153, 0, 10, 25, 7, 58, 10, 167, 0, 121, 25, 7, 193, 0, 180, 153, 0, 22, 25, 7]
abbrev dktJ4_putVal_4 : List UInt8 := dkwJ4_putVal_4 ++ dktJ4_putVal_5
def dkwJ4_putVal_3 : List UInt8 := [160, 0, 35, 25, 7, 180, 0, 170, 89, 58, 11, 44, 165, 0, 16, 44, 198, 0, 19, 44, 25, 11]
abbrev dktJ4_putVal_3 : List UInt8 := dkwJ4_putVal_3 ++ dktJ4_putVal_4
def dkwJ4_putVal_2 : List UInt8 := [25, 6, 21, 9, 42, 27, 44, 45, 1, 182, 0, 186, 83, 167, 0, 199, 25, 7, 180, 0, 168, 27]
abbrev dktJ4_putVal_2 : List UInt8 := dkwJ4_putVal_2 ++ dktJ4_putVal_3
def dkwJ4_putVal_1 : List UInt8 := [58, 6, 190, 54, 8, 25, 6, 21, 8, 4, 100, 27, 126, 89, 54, 9, 50, 89, 58, 7, 199, 0, 19]
abbrev dktJ4_putVal_1 : List UInt8 := dkwJ4_putVal_1 ++ dktJ4_putVal_2
def dkwJ4_putVal_0 : List UInt8 := [42, 180, 0, 105, 89, 58, 6, 198, 0, 12, 25, 6, 190, 89, 54, 8, 154, 0, 13, 42, 182, 0, 117, 89]
abbrev dktJ4_putVal_0 : List UInt8 := dkwJ4_putVal_0 ++ dktJ4_putVal_1
theorem dksJ4_putVal_0 : cJ4_putVal.data.toList.drop 0 = dktJ4_putVal_0 := by decide +kernel
theorem dksJ4_putVal_1 : cJ4_putVal.data.toList.drop 24 = dktJ4_putVal_1 := dk_seg dksJ4_putVal_0 24 rfl rfl
theorem dksJ4_putVal_2 : cJ4_putVal.data.toList.drop 47 = dktJ4_putVal_2 := dk_seg dksJ4_putVal_1 23 rfl rfl
theorem dksJ4_putVal_3 : cJ4_putVal.data.toList.drop 69 = dktJ4_putVal_3 := dk_seg dksJ4_putVal_2 22 rfl rfl
theorem dksJ4_putVal_4 : cJ4_putVal.data.toList.drop 91 = dktJ4_putVal_4 := dk_seg dksJ4_putVal_3 22 rfl rfl
theorem dksJ4_putVal_5 : cJ4_putVal.data.toList.drop 114 = dktJ4_putVal_5 := dk_seg dksJ4_putVal_4 23 rfl rfl
theorem dksJ4_putVal_6 : cJ4_putVal.data.toList.drop 136 = dktJ4_putVal_6 := dk_seg dksJ4_putVal_5 22 rfl rfl
theorem dksJ4_putVal_7 : cJ4_putVal.data.toList.drop 160 = dktJ4_putVal_7 := dk_seg dksJ4_putVal_6 24 rfl rfl
theorem dksJ4_putVal_8 : cJ4_putVal.data.toList.drop 184 = dktJ4_putVal_8 := dk_seg dksJ4_putVal_7 24 rfl rfl
theorem dksJ4_putVal_9 : cJ4_putVal.data.toList.drop 206 = dktJ4_putVal_9 := dk_seg dksJ4_putVal_8 22 rfl rfl
theorem dksJ4_putVal_10 : cJ4_putVal.data.toList.drop 229 = dktJ4_putVal_10 := dk_seg dksJ4_putVal_9 23 rfl rfl
theorem dksJ4_putVal_11 : cJ4_putVal.data.toList.drop 253 = dktJ4_putVal_11 := dk_seg dksJ4_putVal_10 24 rfl rfl
theorem dksJ4_putVal_12 : cJ4_putVal.data.toList.drop 277 = dktJ4_putVal_12 := dk_seg dksJ4_putVal_11 24 rfl rfl
theorem dJ4_putVal_0 : decode cJ4_putVal 0 = .ok (.aload_n 0, 1) := dk_42 (dk_at dksJ4_putVal_0 0 rfl rfl)
theorem dJ4_putVal_1 : decode cJ4_putVal 1 = .ok (.getfield 105, 3) := dk_180 0 105 (dk_at dksJ4_putVal_0 1 rfl rfl)
theorem dJ4_putVal_4 : decode cJ4_putVal 4 = .ok (.dup, 1) := dk_89 (dk_at dksJ4_putVal_0 4 rfl rfl)
theorem dJ4_putVal_5 : decode cJ4_putVal 5 = .ok (.astore 6, 2) := dk_58 6 (dk_at dksJ4_putVal_0 5 rfl rfl)
theorem dJ4_putVal_7 : decode cJ4_putVal 7 = .ok (.ifnull 12, 3) := dk_198 0 12 (dk_at dksJ4_putVal_0 7 rfl rfl)
theorem dJ4_putVal_10 : decode cJ4_putVal 10 = .ok (.aload 6, 2) := dk_25 6 (dk_at dksJ4_putVal_0 10 rfl rfl)
theorem dJ4_putVal_12 : decode cJ4_putVal 12 = .ok (.arraylength, 1) := dk_190 (dk_at dksJ4_putVal_0 12 rfl rfl)
theorem dJ4_putVal_13 : decode cJ4_putVal 13 = .ok (.dup, 1) := dk_89 (dk_at dksJ4_putVal_0 13 rfl rfl)
theorem dJ4_putVal_14 : decode cJ4_putVal 14 = .ok (.istore 8, 2) := dk_54 8 (dk_at dksJ4_putVal_0 14 rfl rfl)
theorem dJ4_putVal_16 : decode cJ4_putVal 16 = .ok (.ifCond .ne 13, 3) := dk_154 0 13 (dk_at dksJ4_putVal_0 16 rfl rfl)
theorem dJ4_putVal_19 : decode cJ4_putVal 19 = .ok (.aload_n 0, 1) := dk_42 (dk_at dksJ4_putVal_0 19 rfl rfl)
theorem dJ4_putVal_20 : decode cJ4_putVal 20 = .ok (.invokevirtual 117, 3) := dk_182 0 117 (dk_at dksJ4_putVal_0 20 rfl rfl)
theorem dJ4_putVal_23 : decode cJ4_putVal 23 = .ok (.dup, 1) := dk_89 (dk_at dksJ4_putVal_0 23 rfl rfl)
theorem dJ4_putVal_24 : decode cJ4_putVal 24 = .ok (.astore 6, 2) := dk_58 6 (dk_at dksJ4_putVal_1 0 rfl rfl)
theorem dJ4_putVal_26 : decode cJ4_putVal 26 = .ok (.arraylength, 1) := dk_190 (dk_at dksJ4_putVal_1 2 rfl rfl)
theorem dJ4_putVal_27 : decode cJ4_putVal 27 = .ok (.istore 8, 2) := dk_54 8 (dk_at dksJ4_putVal_1 3 rfl rfl)
theorem dJ4_putVal_29 : decode cJ4_putVal 29 = .ok (.aload 6, 2) := dk_25 6 (dk_at dksJ4_putVal_1 5 rfl rfl)
theorem dJ4_putVal_31 : decode cJ4_putVal 31 = .ok (.iload 8, 2) := dk_21 8 (dk_at dksJ4_putVal_1 7 rfl rfl)
theorem dJ4_putVal_33 : decode cJ4_putVal 33 = .ok (.iconst 1, 1) := dk_4 (dk_at dksJ4_putVal_1 9 rfl rfl)
theorem dJ4_putVal_34 : decode cJ4_putVal 34 = .ok (.isub, 1) := dk_100 (dk_at dksJ4_putVal_1 10 rfl rfl)
theorem dJ4_putVal_35 : decode cJ4_putVal 35 = .ok (.iload_n 1, 1) := dk_27 (dk_at dksJ4_putVal_1 11 rfl rfl)
theorem dJ4_putVal_36 : decode cJ4_putVal 36 = .ok (.iand, 1) := dk_126 (dk_at dksJ4_putVal_1 12 rfl rfl)
theorem dJ4_putVal_37 : decode cJ4_putVal 37 = .ok (.dup, 1) := dk_89 (dk_at dksJ4_putVal_1 13 rfl rfl)
theorem dJ4_putVal_38 : decode cJ4_putVal 38 = .ok (.istore 9, 2) := dk_54 9 (dk_at dksJ4_putVal_1 14 rfl rfl)
theorem dJ4_putVal_40 : decode cJ4_putVal 40 = .ok (.aaload, 1) := dk_50 (dk_at dksJ4_putVal_1 16 rfl rfl)
theorem dJ4_putVal_41 : decode cJ4_putVal 41 = .ok (.dup, 1) := dk_89 (dk_at dksJ4_putVal_1 17 rfl rfl)
theorem dJ4_putVal_42 : decode cJ4_putVal 42 = .ok (.astore 7, 2) := dk_58 7 (dk_at dksJ4_putVal_1 18 rfl rfl)
theorem dJ4_putVal_44 : decode cJ4_putVal 44 = .ok (.ifnonnull 19, 3) := dk_199 0 19 (dk_at dksJ4_putVal_1 20 rfl rfl)
theorem dJ4_putVal_47 : decode cJ4_putVal 47 = .ok (.aload 6, 2) := dk_25 6 (dk_at dksJ4_putVal_2 0 rfl rfl)
theorem dJ4_putVal_49 : decode cJ4_putVal 49 = .ok (.iload 9, 2) := dk_21 9 (dk_at dksJ4_putVal_2 2 rfl rfl)
theorem dJ4_putVal_51 : decode cJ4_putVal 51 = .ok (.aload_n 0, 1) := dk_42 (dk_at dksJ4_putVal_2 4 rfl rfl)
theorem dJ4_putVal_52 : decode cJ4_putVal 52 = .ok (.iload_n 1, 1) := dk_27 (dk_at dksJ4_putVal_2 5 rfl rfl)
theorem dJ4_putVal_53 : decode cJ4_putVal 53 = .ok (.aload_n 2, 1) := dk_44 (dk_at dksJ4_putVal_2 6 rfl rfl)
theorem dJ4_putVal_54 : decode cJ4_putVal 54 = .ok (.aload_n 3, 1) := dk_45 (dk_at dksJ4_putVal_2 7 rfl rfl)
theorem dJ4_putVal_55 : decode cJ4_putVal 55 = .ok (.aconst_null, 1) := dk_1 (dk_at dksJ4_putVal_2 8 rfl rfl)
theorem dJ4_putVal_56 : decode cJ4_putVal 56 = .ok (.invokevirtual 186, 3) := dk_182 0 186 (dk_at dksJ4_putVal_2 9 rfl rfl)
theorem dJ4_putVal_59 : decode cJ4_putVal 59 = .ok (.aastore, 1) := dk_83 (dk_at dksJ4_putVal_2 12 rfl rfl)
theorem dJ4_putVal_60 : decode cJ4_putVal 60 = .ok (.goto 199, 3) := dk_167 0 199 (dk_at dksJ4_putVal_2 13 rfl rfl)
theorem dJ4_putVal_63 : decode cJ4_putVal 63 = .ok (.aload 7, 2) := dk_25 7 (dk_at dksJ4_putVal_2 16 rfl rfl)
theorem dJ4_putVal_65 : decode cJ4_putVal 65 = .ok (.getfield 168, 3) := dk_180 0 168 (dk_at dksJ4_putVal_2 18 rfl rfl)
theorem dJ4_putVal_68 : decode cJ4_putVal 68 = .ok (.iload_n 1, 1) := dk_27 (dk_at dksJ4_putVal_2 21 rfl rfl)
theorem dJ4_putVal_69 : decode cJ4_putVal 69 = .ok (.if_icmp .ne 35, 3) := dk_160 0 35 (dk_at dksJ4_putVal_3 0 rfl rfl)
theorem dJ4_putVal_72 : decode cJ4_putVal 72 = .ok (.aload 7, 2) := dk_25 7 (dk_at dksJ4_putVal_3 3 rfl rfl)
theorem dJ4_putVal_74 : decode cJ4_putVal 74 = .ok (.getfield 170, 3) := dk_180 0 170 (dk_at dksJ4_putVal_3 5 rfl rfl)
theorem dJ4_putVal_77 : decode cJ4_putVal 77 = .ok (.dup, 1) := dk_89 (dk_at dksJ4_putVal_3 8 rfl rfl)
theorem dJ4_putVal_78 : decode cJ4_putVal 78 = .ok (.astore 11, 2) := dk_58 11 (dk_at dksJ4_putVal_3 9 rfl rfl)
theorem dJ4_putVal_80 : decode cJ4_putVal 80 = .ok (.aload_n 2, 1) := dk_44 (dk_at dksJ4_putVal_3 11 rfl rfl)
theorem dJ4_putVal_81 : decode cJ4_putVal 81 = .ok (.if_acmp .eq 16, 3) := dk_165 0 16 (dk_at dksJ4_putVal_3 12 rfl rfl)
theorem dJ4_putVal_84 : decode cJ4_putVal 84 = .ok (.aload_n 2, 1) := dk_44 (dk_at dksJ4_putVal_3 15 rfl rfl)
theorem dJ4_putVal_85 : decode cJ4_putVal 85 = .ok (.ifnull 19, 3) := dk_198 0 19 (dk_at dksJ4_putVal_3 16 rfl rfl)
theorem dJ4_putVal_88 : decode cJ4_putVal 88 = .ok (.aload_n 2, 1) := dk_44 (dk_at dksJ4_putVal_3 19 rfl rfl)
theorem dJ4_putVal_89 : decode cJ4_putVal 89 = .ok (.aload 11, 2) := dk_25 11 (dk_at dksJ4_putVal_3 20 rfl rfl)
theorem dJ4_putVal_91 : decode cJ4_putVal 91 = .ok (.invokevirtual 173, 3) := dk_182 0 173 (dk_at dksJ4_putVal_4 0 rfl rfl)
theorem dJ4_putVal_94 : decode cJ4_putVal 94 = .ok (.ifCond .eq 10, 3) := dk_153 0 10 (dk_at dksJ4_putVal_4 3 rfl rfl)
theorem dJ4_putVal_97 : decode cJ4_putVal 97 = .ok (.aload 7, 2) := dk_25 7 (dk_at dksJ4_putVal_4 6 rfl rfl)
theorem dJ4_putVal_99 : decode cJ4_putVal 99 = .ok (.astore 10, 2) := dk_58 10 (dk_at dksJ4_putVal_4 8 rfl rfl)
theorem dJ4_putVal_101 : decode cJ4_putVal 101 = .ok (.goto 121, 3) := dk_167 0 121 (dk_at dksJ4_putVal_4 10 rfl rfl)
theorem dJ4_putVal_104 : decode cJ4_putVal 104 = .ok (.aload 7, 2) := dk_25 7 (dk_at dksJ4_putVal_4 13 rfl rfl)
theorem dJ4_putVal_106 : decode cJ4_putVal 106 = .ok (.instanceof 180, 3) := dk_193 0 180 (dk_at dksJ4_putVal_4 15 rfl rfl)
theorem dJ4_putVal_109 : decode cJ4_putVal 109 = .ok (.ifCond .eq 22, 3) := dk_153 0 22 (dk_at dksJ4_putVal_4 18 rfl rfl)
theorem dJ4_putVal_112 : decode cJ4_putVal 112 = .ok (.aload 7, 2) := dk_25 7 (dk_at dksJ4_putVal_4 21 rfl rfl)
theorem dJ4_putVal_114 : decode cJ4_putVal 114 = .ok (.checkcast 180, 3) := dk_192 0 180 (dk_at dksJ4_putVal_5 0 rfl rfl)
theorem dJ4_putVal_117 : decode cJ4_putVal 117 = .ok (.aload_n 0, 1) := dk_42 (dk_at dksJ4_putVal_5 3 rfl rfl)
theorem dJ4_putVal_118 : decode cJ4_putVal 118 = .ok (.aload 6, 2) := dk_25 6 (dk_at dksJ4_putVal_5 4 rfl rfl)
theorem dJ4_putVal_120 : decode cJ4_putVal 120 = .ok (.iload_n 1, 1) := dk_27 (dk_at dksJ4_putVal_5 6 rfl rfl)
theorem dJ4_putVal_121 : decode cJ4_putVal 121 = .ok (.aload_n 2, 1) := dk_44 (dk_at dksJ4_putVal_5 7 rfl rfl)
theorem dJ4_putVal_122 : decode cJ4_putVal 122 = .ok (.aload_n 3, 1) := dk_45 (dk_at dksJ4_putVal_5 8 rfl rfl)
theorem dJ4_putVal_123 : decode cJ4_putVal 123 = .ok (.invokevirtual 190, 3) := dk_182 0 190 (dk_at dksJ4_putVal_5 9 rfl rfl)
theorem dJ4_putVal_126 : decode cJ4_putVal 126 = .ok (.astore 10, 2) := dk_58 10 (dk_at dksJ4_putVal_5 12 rfl rfl)
theorem dJ4_putVal_128 : decode cJ4_putVal 128 = .ok (.goto 94, 3) := dk_167 0 94 (dk_at dksJ4_putVal_5 14 rfl rfl)
theorem dJ4_putVal_131 : decode cJ4_putVal 131 = .ok (.iconst 0, 1) := dk_3 (dk_at dksJ4_putVal_5 17 rfl rfl)
theorem dJ4_putVal_132 : decode cJ4_putVal 132 = .ok (.istore 12, 2) := dk_54 12 (dk_at dksJ4_putVal_5 18 rfl rfl)
theorem dJ4_putVal_134 : decode cJ4_putVal 134 = .ok (.aload 7, 2) := dk_25 7 (dk_at dksJ4_putVal_5 20 rfl rfl)
theorem dJ4_putVal_136 : decode cJ4_putVal 136 = .ok (.getfield 177, 3) := dk_180 0 177 (dk_at dksJ4_putVal_6 0 rfl rfl)
theorem dJ4_putVal_139 : decode cJ4_putVal 139 = .ok (.dup, 1) := dk_89 (dk_at dksJ4_putVal_6 3 rfl rfl)
theorem dJ4_putVal_140 : decode cJ4_putVal 140 = .ok (.astore 10, 2) := dk_58 10 (dk_at dksJ4_putVal_6 4 rfl rfl)
theorem dJ4_putVal_142 : decode cJ4_putVal 142 = .ok (.ifnonnull 33, 3) := dk_199 0 33 (dk_at dksJ4_putVal_6 6 rfl rfl)
theorem dJ4_putVal_145 : decode cJ4_putVal 145 = .ok (.aload 7, 2) := dk_25 7 (dk_at dksJ4_putVal_6 9 rfl rfl)
theorem dJ4_putVal_147 : decode cJ4_putVal 147 = .ok (.aload_n 0, 1) := dk_42 (dk_at dksJ4_putVal_6 11 rfl rfl)
theorem dJ4_putVal_148 : decode cJ4_putVal 148 = .ok (.iload_n 1, 1) := dk_27 (dk_at dksJ4_putVal_6 12 rfl rfl)
theorem dJ4_putVal_149 : decode cJ4_putVal 149 = .ok (.aload_n 2, 1) := dk_44 (dk_at dksJ4_putVal_6 13 rfl rfl)
theorem dJ4_putVal_150 : decode cJ4_putVal 150 = .ok (.aload_n 3, 1) := dk_45 (dk_at dksJ4_putVal_6 14 rfl rfl)
theorem dJ4_putVal_151 : decode cJ4_putVal 151 = .ok (.aconst_null, 1) := dk_1 (dk_at dksJ4_putVal_6 15 rfl rfl)
theorem dJ4_putVal_152 : decode cJ4_putVal 152 = .ok (.invokevirtual 186, 3) := dk_182 0 186 (dk_at dksJ4_putVal_6 16 rfl rfl)
theorem dJ4_putVal_155 : decode cJ4_putVal 155 = .ok (.putfield 177, 3) := dk_181 0 177 (dk_at dksJ4_putVal_6 19 rfl rfl)
theorem dJ4_putVal_158 : decode cJ4_putVal 158 = .ok (.iload 12, 2) := dk_21 12 (dk_at dksJ4_putVal_6 22 rfl rfl)
theorem dJ4_putVal_160 : decode cJ4_putVal 160 = .ok (.bipush 7, 2) := dk_16 7 (dk_at dksJ4_putVal_7 0 rfl rfl)
theorem dJ4_putVal_162 : decode cJ4_putVal 162 = .ok (.if_icmp .lt 60, 3) := dk_161 0 60 (dk_at dksJ4_putVal_7 2 rfl rfl)
theorem dJ4_putVal_165 : decode cJ4_putVal 165 = .ok (.aload_n 0, 1) := dk_42 (dk_at dksJ4_putVal_7 5 rfl rfl)
theorem dJ4_putVal_166 : decode cJ4_putVal 166 = .ok (.aload 6, 2) := dk_25 6 (dk_at dksJ4_putVal_7 6 rfl rfl)
theorem dJ4_putVal_168 : decode cJ4_putVal 168 = .ok (.iload_n 1, 1) := dk_27 (dk_at dksJ4_putVal_7 8 rfl rfl)
theorem dJ4_putVal_169 : decode cJ4_putVal 169 = .ok (.invokevirtual 194, 3) := dk_182 0 194 (dk_at dksJ4_putVal_7 9 rfl rfl)
theorem dJ4_putVal_172 : decode cJ4_putVal 172 = .ok (.goto 50, 3) := dk_167 0 50 (dk_at dksJ4_putVal_7 12 rfl rfl)
theorem dJ4_putVal_175 : decode cJ4_putVal 175 = .ok (.aload 10, 2) := dk_25 10 (dk_at dksJ4_putVal_7 15 rfl rfl)
theorem dJ4_putVal_177 : decode cJ4_putVal 177 = .ok (.getfield 168, 3) := dk_180 0 168 (dk_at dksJ4_putVal_7 17 rfl rfl)
theorem dJ4_putVal_180 : decode cJ4_putVal 180 = .ok (.iload_n 1, 1) := dk_27 (dk_at dksJ4_putVal_7 20 rfl rfl)
theorem dJ4_putVal_181 : decode cJ4_putVal 181 = .ok (.if_icmp .ne 31, 3) := dk_160 0 31 (dk_at dksJ4_putVal_7 21 rfl rfl)
theorem dJ4_putVal_184 : decode cJ4_putVal 184 = .ok (.aload 10, 2) := dk_25 10 (dk_at dksJ4_putVal_8 0 rfl rfl)
theorem dJ4_putVal_186 : decode cJ4_putVal 186 = .ok (.getfield 170, 3) := dk_180 0 170 (dk_at dksJ4_putVal_8 2 rfl rfl)
theorem dJ4_putVal_189 : decode cJ4_putVal 189 = .ok (.dup, 1) := dk_89 (dk_at dksJ4_putVal_8 5 rfl rfl)
theorem dJ4_putVal_190 : decode cJ4_putVal 190 = .ok (.astore 11, 2) := dk_58 11 (dk_at dksJ4_putVal_8 6 rfl rfl)
theorem dJ4_putVal_192 : decode cJ4_putVal 192 = .ok (.aload_n 2, 1) := dk_44 (dk_at dksJ4_putVal_8 8 rfl rfl)
theorem dJ4_putVal_193 : decode cJ4_putVal 193 = .ok (.if_acmp .eq 29, 3) := dk_165 0 29 (dk_at dksJ4_putVal_8 9 rfl rfl)
theorem dJ4_putVal_196 : decode cJ4_putVal 196 = .ok (.aload_n 2, 1) := dk_44 (dk_at dksJ4_putVal_8 12 rfl rfl)
theorem dJ4_putVal_197 : decode cJ4_putVal 197 = .ok (.ifnull 15, 3) := dk_198 0 15 (dk_at dksJ4_putVal_8 13 rfl rfl)
theorem dJ4_putVal_200 : decode cJ4_putVal 200 = .ok (.aload_n 2, 1) := dk_44 (dk_at dksJ4_putVal_8 16 rfl rfl)
theorem dJ4_putVal_201 : decode cJ4_putVal 201 = .ok (.aload 11, 2) := dk_25 11 (dk_at dksJ4_putVal_8 17 rfl rfl)
theorem dJ4_putVal_203 : decode cJ4_putVal 203 = .ok (.invokevirtual 173, 3) := dk_182 0 173 (dk_at dksJ4_putVal_8 19 rfl rfl)
theorem dJ4_putVal_206 : decode cJ4_putVal 206 = .ok (.ifCond .eq 6, 3) := dk_153 0 6 (dk_at dksJ4_putVal_9 0 rfl rfl)
theorem dJ4_putVal_209 : decode cJ4_putVal 209 = .ok (.goto 13, 3) := dk_167 0 13 (dk_at dksJ4_putVal_9 3 rfl rfl)
theorem dJ4_putVal_212 : decode cJ4_putVal 212 = .ok (.aload 10, 2) := dk_25 10 (dk_at dksJ4_putVal_9 6 rfl rfl)
theorem dJ4_putVal_214 : decode cJ4_putVal 214 = .ok (.astore 7, 2) := dk_58 7 (dk_at dksJ4_putVal_9 8 rfl rfl)
theorem dJ4_putVal_216 : decode cJ4_putVal 216 = .ok (.iinc 12 1, 3) := dk_132 12 1 (dk_at dksJ4_putVal_9 10 rfl rfl)
theorem dJ4_putVal_219 : decode cJ4_putVal 219 = .ok (.goto (-85), 3) := dk_167 255 171 (dk_at dksJ4_putVal_9 13 rfl rfl)
theorem dJ4_putVal_222 : decode cJ4_putVal 222 = .ok (.aload 10, 2) := dk_25 10 (dk_at dksJ4_putVal_9 16 rfl rfl)
theorem dJ4_putVal_224 : decode cJ4_putVal 224 = .ok (.ifnull 35, 3) := dk_198 0 35 (dk_at dksJ4_putVal_9 18 rfl rfl)
theorem dJ4_putVal_227 : decode cJ4_putVal 227 = .ok (.aload 10, 2) := dk_25 10 (dk_at dksJ4_putVal_9 21 rfl rfl)
theorem dJ4_putVal_229 : decode cJ4_putVal 229 = .ok (.getfield 162, 3) := dk_180 0 162 (dk_at dksJ4_putVal_10 0 rfl rfl)
theorem dJ4_putVal_232 : decode cJ4_putVal 232 = .ok (.astore 12, 2) := dk_58 12 (dk_at dksJ4_putVal_10 3 rfl rfl)
theorem dJ4_putVal_234 : decode cJ4_putVal 234 = .ok (.iload 4, 2) := dk_21 4 (dk_at dksJ4_putVal_10 5 rfl rfl)
theorem dJ4_putVal_236 : decode cJ4_putVal 236 = .ok (.ifCond .eq 8, 3) := dk_153 0 8 (dk_at dksJ4_putVal_10 7 rfl rfl)
theorem dJ4_putVal_239 : decode cJ4_putVal 239 = .ok (.aload 12, 2) := dk_25 12 (dk_at dksJ4_putVal_10 10 rfl rfl)
theorem dJ4_putVal_241 : decode cJ4_putVal 241 = .ok (.ifnonnull 9, 3) := dk_199 0 9 (dk_at dksJ4_putVal_10 12 rfl rfl)
theorem dJ4_putVal_244 : decode cJ4_putVal 244 = .ok (.aload 10, 2) := dk_25 10 (dk_at dksJ4_putVal_10 15 rfl rfl)
theorem dJ4_putVal_246 : decode cJ4_putVal 246 = .ok (.aload_n 3, 1) := dk_45 (dk_at dksJ4_putVal_10 17 rfl rfl)
theorem dJ4_putVal_247 : decode cJ4_putVal 247 = .ok (.putfield 162, 3) := dk_181 0 162 (dk_at dksJ4_putVal_10 18 rfl rfl)
theorem dJ4_putVal_250 : decode cJ4_putVal 250 = .ok (.aload_n 0, 1) := dk_42 (dk_at dksJ4_putVal_10 21 rfl rfl)
theorem dJ4_putVal_251 : decode cJ4_putVal 251 = .ok (.aload 10, 2) := dk_25 10 (dk_at dksJ4_putVal_10 22 rfl rfl)
theorem dJ4_putVal_253 : decode cJ4_putVal 253 = .ok (.invokevirtual 198, 3) := dk_182 0 198 (dk_at dksJ4_putVal_11 0 rfl rfl)
theorem dJ4_putVal_256 : decode cJ4_putVal 256 = .ok (.aload 12, 2) := dk_25 12 (dk_at dksJ4_putVal_11 3 rfl rfl)
theorem dJ4_putVal_258 : decode cJ4_putVal 258 = .ok (.areturn, 1) := dk_176 (dk_at dksJ4_putVal_11 5 rfl rfl)
theorem dJ4_putVal_259 : decode cJ4_putVal 259 = .ok (.aload_n 0, 1) := dk_42 (dk_at dksJ4_putVal_11 6 rfl rfl)
theorem dJ4_putVal_260 : decode cJ4_putVal 260 = .ok (.dup, 1) := dk_89 (dk_at dksJ4_putVal_11 7 rfl rfl)
theorem dJ4_putVal_261 : decode cJ4_putVal 261 = .ok (.getfield 202, 3) := dk_180 0 202 (dk_at dksJ4_putVal_11 8 rfl rfl)
theorem dJ4_putVal_264 : decode cJ4_putVal 264 = .ok (.iconst 1, 1) := dk_4 (dk_at dksJ4_putVal_11 11 rfl rfl)
theorem dJ4_putVal_265 : decode cJ4_putVal 265 = .ok (.iadd, 1) := dk_96 (dk_at dksJ4_putVal_11 12 rfl rfl)
theorem dJ4_putVal_266 : decode cJ4_putVal 266 = .ok (.putfield 202, 3) := dk_181 0 202 (dk_at dksJ4_putVal_11 13 rfl rfl)
theorem dJ4_putVal_269 : decode cJ4_putVal 269 = .ok (.aload_n 0, 1) := dk_42 (dk_at dksJ4_putVal_11 16 rfl rfl)
theorem dJ4_putVal_270 : decode cJ4_putVal 270 = .ok (.dup, 1) := dk_89 (dk_at dksJ4_putVal_11 17 rfl rfl)
theorem dJ4_putVal_271 : decode cJ4_putVal 271 = .ok (.getfield 156, 3) := dk_180 0 156 (dk_at dksJ4_putVal_11 18 rfl rfl)
theorem dJ4_putVal_274 : decode cJ4_putVal 274 = .ok (.iconst 1, 1) := dk_4 (dk_at dksJ4_putVal_11 21 rfl rfl)
theorem dJ4_putVal_275 : decode cJ4_putVal 275 = .ok (.iadd, 1) := dk_96 (dk_at dksJ4_putVal_11 22 rfl rfl)
theorem dJ4_putVal_276 : decode cJ4_putVal 276 = .ok (.dup_x1, 1) := dk_90 (dk_at dksJ4_putVal_11 23 rfl rfl)
theorem dJ4_putVal_277 : decode cJ4_putVal 277 = .ok (.putfield 156, 3) := dk_181 0 156 (dk_at dksJ4_putVal_12 0 rfl rfl)
theorem dJ4_putVal_280 : decode cJ4_putVal 280 = .ok (.aload_n 0, 1) := dk_42 (dk_at dksJ4_putVal_12 3 rfl rfl)
theorem dJ4_putVal_281 : decode cJ4_putVal 281 = .ok (.getfield 88, 3) := dk_180 0 88 (dk_at dksJ4_putVal_12 4 rfl rfl)
theorem dJ4_putVal_284 : decode cJ4_putVal 284 = .ok (.if_icmp .le 8, 3) := dk_164 0 8 (dk_at dksJ4_putVal_12 7 rfl rfl)
theorem dJ4_putVal_287 : decode cJ4_putVal 287 = .ok (.aload_n 0, 1) := dk_42 (dk_at dksJ4_putVal_12 10 rfl rfl)
theorem dJ4_putVal_288 : decode cJ4_putVal 288 = .ok (.invokevirtual 117, 3) := dk_182 0 117 (dk_at dksJ4_putVal_12 11 rfl rfl)
theorem dJ4_putVal_291 : decode cJ4_putVal 291 = .ok (.pop, 1) := dk_87 (dk_at dksJ4_putVal_12 14 rfl rfl)
theorem dJ4_putVal_292 : decode cJ4_putVal 292 = .ok (.aload_n 0, 1) := dk_42 (dk_at dksJ4_putVal_12 15 rfl rfl)
theorem dJ4_putVal_293 : decode cJ4_putVal 293 = .ok (.iload 5, 2) := dk_21 5 (dk_at dksJ4_putVal_12 16 rfl rfl)
theorem dJ4_putVal_295 : decode cJ4_putVal 295 = .ok (.invokevirtual 205, 3) := dk_182 0 205 (dk_at dksJ4_putVal_12 18 rfl rfl)
theorem dJ4_putVal_298 : decode cJ4_putVal 298 = .ok (.aconst_null, 1) := dk_1 (dk_at dksJ4_putVal_12 21 rfl rfl)
theorem dJ4_putVal_299 : decode cJ4_putVal 299 = .ok (.areturn, 1) := dk_176 (dk_at dksJ4_putVal_12 22 rfl rfl)
abbrev cJ4_resize : ByteArray := prog_49_method_17_code
def yJ4_resize : MethodName := ⟨RJ4, "resize", "()[Ljava/util/HashMap$Node;"⟩
def dkwJ4_resize_15 : List UInt8 := [25, 6, 176]
abbrev dktJ4_resize_15 : List UInt8 := dkwJ4_resize_15 ++ []
def dkwJ4_resize_14 : List UInt8 := [198, 0, 18, 25, 12, 1, 181, 0, 177, 25, 6, 21, 7, 28, 96, 25, 11, 83, 132, 7, 1, 167, 255, 57]
abbrev dktJ4_resize_14 : List UInt8 := dkwJ4_resize_14 ++ dktJ4_resize_15
def dkwJ4_resize_13 : List UInt8 := [199, 255, 185, 25, 10, 198, 0, 16, 25, 10, 1, 181, 0, 177, 25, 6, 21, 7, 25, 9, 83, 25, 12]
abbrev dktJ4_resize_13 : List UInt8 := dkwJ4_resize_13 ++ dktJ4_resize_14
def dkwJ4_resize_12 : List UInt8 := [25, 8, 58, 11, 167, 0, 10, 25, 12, 25, 8, 181, 0, 177, 25, 8, 58, 12, 25, 13, 89, 58, 8]
abbrev dktJ4_resize_12 : List UInt8 := dkwJ4_resize_12 ++ dktJ4_resize_13
def dkwJ4_resize_11 : List UInt8 := [58, 9, 167, 0, 10, 25, 10, 25, 8, 181, 0, 177, 25, 8, 58, 10, 167, 0, 26, 25, 12, 199, 0, 10]
abbrev dktJ4_resize_11 : List UInt8 := dkwJ4_resize_11 ++ dktJ4_resize_12
def dkwJ4_resize_10 : List UInt8 := [25, 8, 180, 0, 177, 58, 13, 25, 8, 180, 0, 168, 28, 126, 154, 0, 29, 25, 10, 199, 0, 10, 25, 8]
abbrev dktJ4_resize_10 : List UInt8 := dkwJ4_resize_10 ++ dktJ4_resize_11
def dkwJ4_resize_9 : List UInt8 := [42, 25, 6, 21, 7, 28, 182, 0, 211, 167, 0, 127, 1, 58, 9, 1, 58, 10, 1, 58, 11, 1, 58, 12]
abbrev dktJ4_resize_9 : List UInt8 := dkwJ4_resize_9 ++ dktJ4_resize_10
def dkwJ4_resize_8 : List UInt8 := [21, 4, 4, 100, 126, 25, 8, 83, 167, 0, 152, 25, 8, 193, 0, 180, 153, 0, 20, 25, 8, 192, 0, 180]
abbrev dktJ4_resize_8 : List UInt8 := dkwJ4_resize_8 ++ dktJ4_resize_9
def dkwJ4_resize_7 : List UInt8 := [198, 0, 183, 43, 21, 7, 1, 83, 25, 8, 180, 0, 177, 199, 0, 21, 25, 6, 25, 8, 180, 0, 168]
abbrev dktJ4_resize_7 : List UInt8 := dkwJ4_resize_7 ++ dktJ4_resize_8
def dkwJ4_resize_6 : List UInt8 := [181, 0, 105, 43, 198, 0, 208, 3, 54, 7, 21, 7, 28, 162, 0, 199, 43, 21, 7, 50, 89, 58, 8]
abbrev dktJ4_resize_6 : List UInt8 := dkwJ4_resize_6 ++ dktJ4_resize_7
def dkwJ4_resize_5 : List UInt8 := [167, 0, 5, 18, 209, 54, 5, 42, 21, 5, 181, 0, 88, 21, 4, 189, 0, 163, 58, 6, 42, 25, 6]
abbrev dktJ4_resize_5 : List UInt8 := dkwJ4_resize_5 ++ dktJ4_resize_6
def dkwJ4_resize_4 : List UInt8 := [180, 0, 81, 106, 56, 6, 21, 4, 18, 42, 162, 0, 17, 23, 6, 18, 210, 150, 156, 0, 9, 23, 6, 139]
abbrev dktJ4_resize_4 : List UInt8 := dkwJ4_resize_4 ++ dktJ4_resize_5
def dkwJ4_resize_3 : List UInt8 := [54, 4, 167, 0, 11, 16, 16, 54, 4, 16, 12, 54, 5, 21, 5, 154, 0, 38, 21, 4, 134, 42]
abbrev dktJ4_resize_3 : List UInt8 := dkwJ4_resize_3 ++ dktJ4_resize_4
def dkwJ4_resize_2 : List UInt8 := [18, 42, 162, 0, 35, 28, 16, 16, 161, 0, 29, 29, 4, 120, 54, 5, 167, 0, 21, 29, 158, 0, 9, 29]
abbrev dktJ4_resize_2 : List UInt8 := dkwJ4_resize_2 ++ dktJ4_resize_3
def dkwJ4_resize_1 : List UInt8 := [28, 158, 0, 42, 28, 18, 42, 161, 0, 11, 42, 18, 209, 181, 0, 88, 43, 176, 28, 4, 120, 89, 54, 4]
abbrev dktJ4_resize_1 : List UInt8 := dkwJ4_resize_1 ++ dktJ4_resize_2
def dkwJ4_resize_0 : List UInt8 := [42, 180, 0, 105, 76, 43, 199, 0, 7, 3, 167, 0, 5, 43, 190, 61, 42, 180, 0, 88, 62, 3, 54, 5]
abbrev dktJ4_resize_0 : List UInt8 := dkwJ4_resize_0 ++ dktJ4_resize_1
theorem dksJ4_resize_0 : cJ4_resize.data.toList.drop 0 = dktJ4_resize_0 := by decide +kernel
theorem dksJ4_resize_1 : cJ4_resize.data.toList.drop 24 = dktJ4_resize_1 := dk_seg dksJ4_resize_0 24 rfl rfl
theorem dksJ4_resize_2 : cJ4_resize.data.toList.drop 48 = dktJ4_resize_2 := dk_seg dksJ4_resize_1 24 rfl rfl
theorem dksJ4_resize_3 : cJ4_resize.data.toList.drop 72 = dktJ4_resize_3 := dk_seg dksJ4_resize_2 24 rfl rfl
theorem dksJ4_resize_4 : cJ4_resize.data.toList.drop 94 = dktJ4_resize_4 := dk_seg dksJ4_resize_3 22 rfl rfl
theorem dksJ4_resize_5 : cJ4_resize.data.toList.drop 118 = dktJ4_resize_5 := dk_seg dksJ4_resize_4 24 rfl rfl
theorem dksJ4_resize_6 : cJ4_resize.data.toList.drop 141 = dktJ4_resize_6 := dk_seg dksJ4_resize_5 23 rfl rfl
theorem dksJ4_resize_7 : cJ4_resize.data.toList.drop 164 = dktJ4_resize_7 := dk_seg dksJ4_resize_6 23 rfl rfl
theorem dksJ4_resize_8 : cJ4_resize.data.toList.drop 187 = dktJ4_resize_8 := dk_seg dksJ4_resize_7 23 rfl rfl
theorem dksJ4_resize_9 : cJ4_resize.data.toList.drop 211 = dktJ4_resize_9 := dk_seg dksJ4_resize_8 24 rfl rfl
theorem dksJ4_resize_10 : cJ4_resize.data.toList.drop 235 = dktJ4_resize_10 := dk_seg dksJ4_resize_9 24 rfl rfl
theorem dksJ4_resize_11 : cJ4_resize.data.toList.drop 259 = dktJ4_resize_11 := dk_seg dksJ4_resize_10 24 rfl rfl
theorem dksJ4_resize_12 : cJ4_resize.data.toList.drop 283 = dktJ4_resize_12 := dk_seg dksJ4_resize_11 24 rfl rfl
theorem dksJ4_resize_13 : cJ4_resize.data.toList.drop 306 = dktJ4_resize_13 := dk_seg dksJ4_resize_12 23 rfl rfl
theorem dksJ4_resize_14 : cJ4_resize.data.toList.drop 329 = dktJ4_resize_14 := dk_seg dksJ4_resize_13 23 rfl rfl
theorem dksJ4_resize_15 : cJ4_resize.data.toList.drop 353 = dktJ4_resize_15 := dk_seg dksJ4_resize_14 24 rfl rfl
theorem dJ4_resize_0 : decode cJ4_resize 0 = .ok (.aload_n 0, 1) := dk_42 (dk_at dksJ4_resize_0 0 rfl rfl)
theorem dJ4_resize_1 : decode cJ4_resize 1 = .ok (.getfield 105, 3) := dk_180 0 105 (dk_at dksJ4_resize_0 1 rfl rfl)
theorem dJ4_resize_4 : decode cJ4_resize 4 = .ok (.astore_n 1, 1) := dk_76 (dk_at dksJ4_resize_0 4 rfl rfl)
theorem dJ4_resize_5 : decode cJ4_resize 5 = .ok (.aload_n 1, 1) := dk_43 (dk_at dksJ4_resize_0 5 rfl rfl)
theorem dJ4_resize_6 : decode cJ4_resize 6 = .ok (.ifnonnull 7, 3) := dk_199 0 7 (dk_at dksJ4_resize_0 6 rfl rfl)
theorem dJ4_resize_9 : decode cJ4_resize 9 = .ok (.iconst 0, 1) := dk_3 (dk_at dksJ4_resize_0 9 rfl rfl)
theorem dJ4_resize_10 : decode cJ4_resize 10 = .ok (.goto 5, 3) := dk_167 0 5 (dk_at dksJ4_resize_0 10 rfl rfl)
theorem dJ4_resize_13 : decode cJ4_resize 13 = .ok (.aload_n 1, 1) := dk_43 (dk_at dksJ4_resize_0 13 rfl rfl)
theorem dJ4_resize_14 : decode cJ4_resize 14 = .ok (.arraylength, 1) := dk_190 (dk_at dksJ4_resize_0 14 rfl rfl)
theorem dJ4_resize_15 : decode cJ4_resize 15 = .ok (.istore_n 2, 1) := dk_61 (dk_at dksJ4_resize_0 15 rfl rfl)
theorem dJ4_resize_16 : decode cJ4_resize 16 = .ok (.aload_n 0, 1) := dk_42 (dk_at dksJ4_resize_0 16 rfl rfl)
theorem dJ4_resize_17 : decode cJ4_resize 17 = .ok (.getfield 88, 3) := dk_180 0 88 (dk_at dksJ4_resize_0 17 rfl rfl)
theorem dJ4_resize_20 : decode cJ4_resize 20 = .ok (.istore_n 3, 1) := dk_62 (dk_at dksJ4_resize_0 20 rfl rfl)
theorem dJ4_resize_21 : decode cJ4_resize 21 = .ok (.iconst 0, 1) := dk_3 (dk_at dksJ4_resize_0 21 rfl rfl)
theorem dJ4_resize_22 : decode cJ4_resize 22 = .ok (.istore 5, 2) := dk_54 5 (dk_at dksJ4_resize_0 22 rfl rfl)
theorem dJ4_resize_24 : decode cJ4_resize 24 = .ok (.iload_n 2, 1) := dk_28 (dk_at dksJ4_resize_1 0 rfl rfl)
theorem dJ4_resize_25 : decode cJ4_resize 25 = .ok (.ifCond .le 42, 3) := dk_158 0 42 (dk_at dksJ4_resize_1 1 rfl rfl)
theorem dJ4_resize_28 : decode cJ4_resize 28 = .ok (.iload_n 2, 1) := dk_28 (dk_at dksJ4_resize_1 4 rfl rfl)
theorem dJ4_resize_29 : decode cJ4_resize 29 = .ok (.ldc 42, 2) := dk_18 42 (dk_at dksJ4_resize_1 5 rfl rfl)
theorem dJ4_resize_31 : decode cJ4_resize 31 = .ok (.if_icmp .lt 11, 3) := dk_161 0 11 (dk_at dksJ4_resize_1 7 rfl rfl)
theorem dJ4_resize_34 : decode cJ4_resize 34 = .ok (.aload_n 0, 1) := dk_42 (dk_at dksJ4_resize_1 10 rfl rfl)
theorem dJ4_resize_35 : decode cJ4_resize 35 = .ok (.ldc 209, 2) := dk_18 209 (dk_at dksJ4_resize_1 11 rfl rfl)
theorem dJ4_resize_37 : decode cJ4_resize 37 = .ok (.putfield 88, 3) := dk_181 0 88 (dk_at dksJ4_resize_1 13 rfl rfl)
theorem dJ4_resize_40 : decode cJ4_resize 40 = .ok (.aload_n 1, 1) := dk_43 (dk_at dksJ4_resize_1 16 rfl rfl)
theorem dJ4_resize_41 : decode cJ4_resize 41 = .ok (.areturn, 1) := dk_176 (dk_at dksJ4_resize_1 17 rfl rfl)
theorem dJ4_resize_42 : decode cJ4_resize 42 = .ok (.iload_n 2, 1) := dk_28 (dk_at dksJ4_resize_1 18 rfl rfl)
theorem dJ4_resize_43 : decode cJ4_resize 43 = .ok (.iconst 1, 1) := dk_4 (dk_at dksJ4_resize_1 19 rfl rfl)
theorem dJ4_resize_44 : decode cJ4_resize 44 = .ok (.ishl, 1) := dk_120 (dk_at dksJ4_resize_1 20 rfl rfl)
theorem dJ4_resize_45 : decode cJ4_resize 45 = .ok (.dup, 1) := dk_89 (dk_at dksJ4_resize_1 21 rfl rfl)
theorem dJ4_resize_46 : decode cJ4_resize 46 = .ok (.istore 4, 2) := dk_54 4 (dk_at dksJ4_resize_1 22 rfl rfl)
theorem dJ4_resize_48 : decode cJ4_resize 48 = .ok (.ldc 42, 2) := dk_18 42 (dk_at dksJ4_resize_2 0 rfl rfl)
theorem dJ4_resize_50 : decode cJ4_resize 50 = .ok (.if_icmp .ge 35, 3) := dk_162 0 35 (dk_at dksJ4_resize_2 2 rfl rfl)
theorem dJ4_resize_53 : decode cJ4_resize 53 = .ok (.iload_n 2, 1) := dk_28 (dk_at dksJ4_resize_2 5 rfl rfl)
theorem dJ4_resize_54 : decode cJ4_resize 54 = .ok (.bipush 16, 2) := dk_16 16 (dk_at dksJ4_resize_2 6 rfl rfl)
theorem dJ4_resize_56 : decode cJ4_resize 56 = .ok (.if_icmp .lt 29, 3) := dk_161 0 29 (dk_at dksJ4_resize_2 8 rfl rfl)
theorem dJ4_resize_59 : decode cJ4_resize 59 = .ok (.iload_n 3, 1) := dk_29 (dk_at dksJ4_resize_2 11 rfl rfl)
theorem dJ4_resize_60 : decode cJ4_resize 60 = .ok (.iconst 1, 1) := dk_4 (dk_at dksJ4_resize_2 12 rfl rfl)
theorem dJ4_resize_61 : decode cJ4_resize 61 = .ok (.ishl, 1) := dk_120 (dk_at dksJ4_resize_2 13 rfl rfl)
theorem dJ4_resize_62 : decode cJ4_resize 62 = .ok (.istore 5, 2) := dk_54 5 (dk_at dksJ4_resize_2 14 rfl rfl)
theorem dJ4_resize_64 : decode cJ4_resize 64 = .ok (.goto 21, 3) := dk_167 0 21 (dk_at dksJ4_resize_2 16 rfl rfl)
theorem dJ4_resize_67 : decode cJ4_resize 67 = .ok (.iload_n 3, 1) := dk_29 (dk_at dksJ4_resize_2 19 rfl rfl)
theorem dJ4_resize_68 : decode cJ4_resize 68 = .ok (.ifCond .le 9, 3) := dk_158 0 9 (dk_at dksJ4_resize_2 20 rfl rfl)
theorem dJ4_resize_71 : decode cJ4_resize 71 = .ok (.iload_n 3, 1) := dk_29 (dk_at dksJ4_resize_2 23 rfl rfl)
theorem dJ4_resize_72 : decode cJ4_resize 72 = .ok (.istore 4, 2) := dk_54 4 (dk_at dksJ4_resize_3 0 rfl rfl)
theorem dJ4_resize_74 : decode cJ4_resize 74 = .ok (.goto 11, 3) := dk_167 0 11 (dk_at dksJ4_resize_3 2 rfl rfl)
theorem dJ4_resize_77 : decode cJ4_resize 77 = .ok (.bipush 16, 2) := dk_16 16 (dk_at dksJ4_resize_3 5 rfl rfl)
theorem dJ4_resize_79 : decode cJ4_resize 79 = .ok (.istore 4, 2) := dk_54 4 (dk_at dksJ4_resize_3 7 rfl rfl)
theorem dJ4_resize_81 : decode cJ4_resize 81 = .ok (.bipush 12, 2) := dk_16 12 (dk_at dksJ4_resize_3 9 rfl rfl)
theorem dJ4_resize_83 : decode cJ4_resize 83 = .ok (.istore 5, 2) := dk_54 5 (dk_at dksJ4_resize_3 11 rfl rfl)
theorem dJ4_resize_85 : decode cJ4_resize 85 = .ok (.iload 5, 2) := dk_21 5 (dk_at dksJ4_resize_3 13 rfl rfl)
theorem dJ4_resize_87 : decode cJ4_resize 87 = .ok (.ifCond .ne 38, 3) := dk_154 0 38 (dk_at dksJ4_resize_3 15 rfl rfl)
theorem dJ4_resize_90 : decode cJ4_resize 90 = .ok (.iload 4, 2) := dk_21 4 (dk_at dksJ4_resize_3 18 rfl rfl)
theorem dJ4_resize_92 : decode cJ4_resize 92 = .ok (.i2f, 1) := dk_134 (dk_at dksJ4_resize_3 20 rfl rfl)
theorem dJ4_resize_93 : decode cJ4_resize 93 = .ok (.aload_n 0, 1) := dk_42 (dk_at dksJ4_resize_3 21 rfl rfl)
theorem dJ4_resize_94 : decode cJ4_resize 94 = .ok (.getfield 81, 3) := dk_180 0 81 (dk_at dksJ4_resize_4 0 rfl rfl)
theorem dJ4_resize_97 : decode cJ4_resize 97 = .ok (.fmul, 1) := dk_106 (dk_at dksJ4_resize_4 3 rfl rfl)
theorem dJ4_resize_98 : decode cJ4_resize 98 = .ok (.fstore 6, 2) := dk_56 6 (dk_at dksJ4_resize_4 4 rfl rfl)
theorem dJ4_resize_100 : decode cJ4_resize 100 = .ok (.iload 4, 2) := dk_21 4 (dk_at dksJ4_resize_4 6 rfl rfl)
theorem dJ4_resize_102 : decode cJ4_resize 102 = .ok (.ldc 42, 2) := dk_18 42 (dk_at dksJ4_resize_4 8 rfl rfl)
theorem dJ4_resize_104 : decode cJ4_resize 104 = .ok (.if_icmp .ge 17, 3) := dk_162 0 17 (dk_at dksJ4_resize_4 10 rfl rfl)
theorem dJ4_resize_107 : decode cJ4_resize 107 = .ok (.fload 6, 2) := dk_23 6 (dk_at dksJ4_resize_4 13 rfl rfl)
theorem dJ4_resize_109 : decode cJ4_resize 109 = .ok (.ldc 210, 2) := dk_18 210 (dk_at dksJ4_resize_4 15 rfl rfl)
theorem dJ4_resize_111 : decode cJ4_resize 111 = .ok (.fcmp .g, 1) := dk_150 (dk_at dksJ4_resize_4 17 rfl rfl)
theorem dJ4_resize_112 : decode cJ4_resize 112 = .ok (.ifCond .ge 9, 3) := dk_156 0 9 (dk_at dksJ4_resize_4 18 rfl rfl)
theorem dJ4_resize_115 : decode cJ4_resize 115 = .ok (.fload 6, 2) := dk_23 6 (dk_at dksJ4_resize_4 21 rfl rfl)
theorem dJ4_resize_117 : decode cJ4_resize 117 = .ok (.f2i, 1) := dk_139 (dk_at dksJ4_resize_4 23 rfl rfl)
theorem dJ4_resize_118 : decode cJ4_resize 118 = .ok (.goto 5, 3) := dk_167 0 5 (dk_at dksJ4_resize_5 0 rfl rfl)
theorem dJ4_resize_121 : decode cJ4_resize 121 = .ok (.ldc 209, 2) := dk_18 209 (dk_at dksJ4_resize_5 3 rfl rfl)
theorem dJ4_resize_123 : decode cJ4_resize 123 = .ok (.istore 5, 2) := dk_54 5 (dk_at dksJ4_resize_5 5 rfl rfl)
theorem dJ4_resize_125 : decode cJ4_resize 125 = .ok (.aload_n 0, 1) := dk_42 (dk_at dksJ4_resize_5 7 rfl rfl)
theorem dJ4_resize_126 : decode cJ4_resize 126 = .ok (.iload 5, 2) := dk_21 5 (dk_at dksJ4_resize_5 8 rfl rfl)
theorem dJ4_resize_128 : decode cJ4_resize 128 = .ok (.putfield 88, 3) := dk_181 0 88 (dk_at dksJ4_resize_5 10 rfl rfl)
theorem dJ4_resize_131 : decode cJ4_resize 131 = .ok (.iload 4, 2) := dk_21 4 (dk_at dksJ4_resize_5 13 rfl rfl)
theorem dJ4_resize_133 : decode cJ4_resize 133 = .ok (.anewarray 163, 3) := dk_189 0 163 (dk_at dksJ4_resize_5 15 rfl rfl)
theorem dJ4_resize_136 : decode cJ4_resize 136 = .ok (.astore 6, 2) := dk_58 6 (dk_at dksJ4_resize_5 18 rfl rfl)
theorem dJ4_resize_138 : decode cJ4_resize 138 = .ok (.aload_n 0, 1) := dk_42 (dk_at dksJ4_resize_5 20 rfl rfl)
theorem dJ4_resize_139 : decode cJ4_resize 139 = .ok (.aload 6, 2) := dk_25 6 (dk_at dksJ4_resize_5 21 rfl rfl)
theorem dJ4_resize_141 : decode cJ4_resize 141 = .ok (.putfield 105, 3) := dk_181 0 105 (dk_at dksJ4_resize_6 0 rfl rfl)
theorem dJ4_resize_144 : decode cJ4_resize 144 = .ok (.aload_n 1, 1) := dk_43 (dk_at dksJ4_resize_6 3 rfl rfl)
theorem dJ4_resize_145 : decode cJ4_resize 145 = .ok (.ifnull 208, 3) := dk_198 0 208 (dk_at dksJ4_resize_6 4 rfl rfl)
theorem dJ4_resize_148 : decode cJ4_resize 148 = .ok (.iconst 0, 1) := dk_3 (dk_at dksJ4_resize_6 7 rfl rfl)
theorem dJ4_resize_149 : decode cJ4_resize 149 = .ok (.istore 7, 2) := dk_54 7 (dk_at dksJ4_resize_6 8 rfl rfl)
theorem dJ4_resize_151 : decode cJ4_resize 151 = .ok (.iload 7, 2) := dk_21 7 (dk_at dksJ4_resize_6 10 rfl rfl)
theorem dJ4_resize_153 : decode cJ4_resize 153 = .ok (.iload_n 2, 1) := dk_28 (dk_at dksJ4_resize_6 12 rfl rfl)
theorem dJ4_resize_154 : decode cJ4_resize 154 = .ok (.if_icmp .ge 199, 3) := dk_162 0 199 (dk_at dksJ4_resize_6 13 rfl rfl)
theorem dJ4_resize_157 : decode cJ4_resize 157 = .ok (.aload_n 1, 1) := dk_43 (dk_at dksJ4_resize_6 16 rfl rfl)
theorem dJ4_resize_158 : decode cJ4_resize 158 = .ok (.iload 7, 2) := dk_21 7 (dk_at dksJ4_resize_6 17 rfl rfl)
theorem dJ4_resize_160 : decode cJ4_resize 160 = .ok (.aaload, 1) := dk_50 (dk_at dksJ4_resize_6 19 rfl rfl)
theorem dJ4_resize_161 : decode cJ4_resize 161 = .ok (.dup, 1) := dk_89 (dk_at dksJ4_resize_6 20 rfl rfl)
theorem dJ4_resize_162 : decode cJ4_resize 162 = .ok (.astore 8, 2) := dk_58 8 (dk_at dksJ4_resize_6 21 rfl rfl)
theorem dJ4_resize_164 : decode cJ4_resize 164 = .ok (.ifnull 183, 3) := dk_198 0 183 (dk_at dksJ4_resize_7 0 rfl rfl)
theorem dJ4_resize_167 : decode cJ4_resize 167 = .ok (.aload_n 1, 1) := dk_43 (dk_at dksJ4_resize_7 3 rfl rfl)
theorem dJ4_resize_168 : decode cJ4_resize 168 = .ok (.iload 7, 2) := dk_21 7 (dk_at dksJ4_resize_7 4 rfl rfl)
theorem dJ4_resize_170 : decode cJ4_resize 170 = .ok (.aconst_null, 1) := dk_1 (dk_at dksJ4_resize_7 6 rfl rfl)
theorem dJ4_resize_171 : decode cJ4_resize 171 = .ok (.aastore, 1) := dk_83 (dk_at dksJ4_resize_7 7 rfl rfl)
theorem dJ4_resize_172 : decode cJ4_resize 172 = .ok (.aload 8, 2) := dk_25 8 (dk_at dksJ4_resize_7 8 rfl rfl)
theorem dJ4_resize_174 : decode cJ4_resize 174 = .ok (.getfield 177, 3) := dk_180 0 177 (dk_at dksJ4_resize_7 10 rfl rfl)
theorem dJ4_resize_177 : decode cJ4_resize 177 = .ok (.ifnonnull 21, 3) := dk_199 0 21 (dk_at dksJ4_resize_7 13 rfl rfl)
theorem dJ4_resize_180 : decode cJ4_resize 180 = .ok (.aload 6, 2) := dk_25 6 (dk_at dksJ4_resize_7 16 rfl rfl)
theorem dJ4_resize_182 : decode cJ4_resize 182 = .ok (.aload 8, 2) := dk_25 8 (dk_at dksJ4_resize_7 18 rfl rfl)
theorem dJ4_resize_184 : decode cJ4_resize 184 = .ok (.getfield 168, 3) := dk_180 0 168 (dk_at dksJ4_resize_7 20 rfl rfl)
theorem dJ4_resize_187 : decode cJ4_resize 187 = .ok (.iload 4, 2) := dk_21 4 (dk_at dksJ4_resize_8 0 rfl rfl)
theorem dJ4_resize_189 : decode cJ4_resize 189 = .ok (.iconst 1, 1) := dk_4 (dk_at dksJ4_resize_8 2 rfl rfl)
theorem dJ4_resize_190 : decode cJ4_resize 190 = .ok (.isub, 1) := dk_100 (dk_at dksJ4_resize_8 3 rfl rfl)
theorem dJ4_resize_191 : decode cJ4_resize 191 = .ok (.iand, 1) := dk_126 (dk_at dksJ4_resize_8 4 rfl rfl)
theorem dJ4_resize_192 : decode cJ4_resize 192 = .ok (.aload 8, 2) := dk_25 8 (dk_at dksJ4_resize_8 5 rfl rfl)
theorem dJ4_resize_194 : decode cJ4_resize 194 = .ok (.aastore, 1) := dk_83 (dk_at dksJ4_resize_8 7 rfl rfl)
theorem dJ4_resize_195 : decode cJ4_resize 195 = .ok (.goto 152, 3) := dk_167 0 152 (dk_at dksJ4_resize_8 8 rfl rfl)
theorem dJ4_resize_198 : decode cJ4_resize 198 = .ok (.aload 8, 2) := dk_25 8 (dk_at dksJ4_resize_8 11 rfl rfl)
theorem dJ4_resize_200 : decode cJ4_resize 200 = .ok (.instanceof 180, 3) := dk_193 0 180 (dk_at dksJ4_resize_8 13 rfl rfl)
theorem dJ4_resize_203 : decode cJ4_resize 203 = .ok (.ifCond .eq 20, 3) := dk_153 0 20 (dk_at dksJ4_resize_8 16 rfl rfl)
theorem dJ4_resize_206 : decode cJ4_resize 206 = .ok (.aload 8, 2) := dk_25 8 (dk_at dksJ4_resize_8 19 rfl rfl)
theorem dJ4_resize_208 : decode cJ4_resize 208 = .ok (.checkcast 180, 3) := dk_192 0 180 (dk_at dksJ4_resize_8 21 rfl rfl)
theorem dJ4_resize_211 : decode cJ4_resize 211 = .ok (.aload_n 0, 1) := dk_42 (dk_at dksJ4_resize_9 0 rfl rfl)
theorem dJ4_resize_212 : decode cJ4_resize 212 = .ok (.aload 6, 2) := dk_25 6 (dk_at dksJ4_resize_9 1 rfl rfl)
theorem dJ4_resize_214 : decode cJ4_resize 214 = .ok (.iload 7, 2) := dk_21 7 (dk_at dksJ4_resize_9 3 rfl rfl)
theorem dJ4_resize_216 : decode cJ4_resize 216 = .ok (.iload_n 2, 1) := dk_28 (dk_at dksJ4_resize_9 5 rfl rfl)
theorem dJ4_resize_217 : decode cJ4_resize 217 = .ok (.invokevirtual 211, 3) := dk_182 0 211 (dk_at dksJ4_resize_9 6 rfl rfl)
theorem dJ4_resize_220 : decode cJ4_resize 220 = .ok (.goto 127, 3) := dk_167 0 127 (dk_at dksJ4_resize_9 9 rfl rfl)
theorem dJ4_resize_223 : decode cJ4_resize 223 = .ok (.aconst_null, 1) := dk_1 (dk_at dksJ4_resize_9 12 rfl rfl)
theorem dJ4_resize_224 : decode cJ4_resize 224 = .ok (.astore 9, 2) := dk_58 9 (dk_at dksJ4_resize_9 13 rfl rfl)
theorem dJ4_resize_226 : decode cJ4_resize 226 = .ok (.aconst_null, 1) := dk_1 (dk_at dksJ4_resize_9 15 rfl rfl)
theorem dJ4_resize_227 : decode cJ4_resize 227 = .ok (.astore 10, 2) := dk_58 10 (dk_at dksJ4_resize_9 16 rfl rfl)
theorem dJ4_resize_229 : decode cJ4_resize 229 = .ok (.aconst_null, 1) := dk_1 (dk_at dksJ4_resize_9 18 rfl rfl)
theorem dJ4_resize_230 : decode cJ4_resize 230 = .ok (.astore 11, 2) := dk_58 11 (dk_at dksJ4_resize_9 19 rfl rfl)
theorem dJ4_resize_232 : decode cJ4_resize 232 = .ok (.aconst_null, 1) := dk_1 (dk_at dksJ4_resize_9 21 rfl rfl)
theorem dJ4_resize_233 : decode cJ4_resize 233 = .ok (.astore 12, 2) := dk_58 12 (dk_at dksJ4_resize_9 22 rfl rfl)
theorem dJ4_resize_235 : decode cJ4_resize 235 = .ok (.aload 8, 2) := dk_25 8 (dk_at dksJ4_resize_10 0 rfl rfl)
theorem dJ4_resize_237 : decode cJ4_resize 237 = .ok (.getfield 177, 3) := dk_180 0 177 (dk_at dksJ4_resize_10 2 rfl rfl)
theorem dJ4_resize_240 : decode cJ4_resize 240 = .ok (.astore 13, 2) := dk_58 13 (dk_at dksJ4_resize_10 5 rfl rfl)
theorem dJ4_resize_242 : decode cJ4_resize 242 = .ok (.aload 8, 2) := dk_25 8 (dk_at dksJ4_resize_10 7 rfl rfl)
theorem dJ4_resize_244 : decode cJ4_resize 244 = .ok (.getfield 168, 3) := dk_180 0 168 (dk_at dksJ4_resize_10 9 rfl rfl)
theorem dJ4_resize_247 : decode cJ4_resize 247 = .ok (.iload_n 2, 1) := dk_28 (dk_at dksJ4_resize_10 12 rfl rfl)
theorem dJ4_resize_248 : decode cJ4_resize 248 = .ok (.iand, 1) := dk_126 (dk_at dksJ4_resize_10 13 rfl rfl)
theorem dJ4_resize_249 : decode cJ4_resize 249 = .ok (.ifCond .ne 29, 3) := dk_154 0 29 (dk_at dksJ4_resize_10 14 rfl rfl)
theorem dJ4_resize_252 : decode cJ4_resize 252 = .ok (.aload 10, 2) := dk_25 10 (dk_at dksJ4_resize_10 17 rfl rfl)
theorem dJ4_resize_254 : decode cJ4_resize 254 = .ok (.ifnonnull 10, 3) := dk_199 0 10 (dk_at dksJ4_resize_10 19 rfl rfl)
theorem dJ4_resize_257 : decode cJ4_resize 257 = .ok (.aload 8, 2) := dk_25 8 (dk_at dksJ4_resize_10 22 rfl rfl)
theorem dJ4_resize_259 : decode cJ4_resize 259 = .ok (.astore 9, 2) := dk_58 9 (dk_at dksJ4_resize_11 0 rfl rfl)
theorem dJ4_resize_261 : decode cJ4_resize 261 = .ok (.goto 10, 3) := dk_167 0 10 (dk_at dksJ4_resize_11 2 rfl rfl)
theorem dJ4_resize_264 : decode cJ4_resize 264 = .ok (.aload 10, 2) := dk_25 10 (dk_at dksJ4_resize_11 5 rfl rfl)
theorem dJ4_resize_266 : decode cJ4_resize 266 = .ok (.aload 8, 2) := dk_25 8 (dk_at dksJ4_resize_11 7 rfl rfl)
theorem dJ4_resize_268 : decode cJ4_resize 268 = .ok (.putfield 177, 3) := dk_181 0 177 (dk_at dksJ4_resize_11 9 rfl rfl)
theorem dJ4_resize_271 : decode cJ4_resize 271 = .ok (.aload 8, 2) := dk_25 8 (dk_at dksJ4_resize_11 12 rfl rfl)
theorem dJ4_resize_273 : decode cJ4_resize 273 = .ok (.astore 10, 2) := dk_58 10 (dk_at dksJ4_resize_11 14 rfl rfl)
theorem dJ4_resize_275 : decode cJ4_resize 275 = .ok (.goto 26, 3) := dk_167 0 26 (dk_at dksJ4_resize_11 16 rfl rfl)
theorem dJ4_resize_278 : decode cJ4_resize 278 = .ok (.aload 12, 2) := dk_25 12 (dk_at dksJ4_resize_11 19 rfl rfl)
theorem dJ4_resize_280 : decode cJ4_resize 280 = .ok (.ifnonnull 10, 3) := dk_199 0 10 (dk_at dksJ4_resize_11 21 rfl rfl)
theorem dJ4_resize_283 : decode cJ4_resize 283 = .ok (.aload 8, 2) := dk_25 8 (dk_at dksJ4_resize_12 0 rfl rfl)
theorem dJ4_resize_285 : decode cJ4_resize 285 = .ok (.astore 11, 2) := dk_58 11 (dk_at dksJ4_resize_12 2 rfl rfl)
theorem dJ4_resize_287 : decode cJ4_resize 287 = .ok (.goto 10, 3) := dk_167 0 10 (dk_at dksJ4_resize_12 4 rfl rfl)
theorem dJ4_resize_290 : decode cJ4_resize 290 = .ok (.aload 12, 2) := dk_25 12 (dk_at dksJ4_resize_12 7 rfl rfl)
theorem dJ4_resize_292 : decode cJ4_resize 292 = .ok (.aload 8, 2) := dk_25 8 (dk_at dksJ4_resize_12 9 rfl rfl)
theorem dJ4_resize_294 : decode cJ4_resize 294 = .ok (.putfield 177, 3) := dk_181 0 177 (dk_at dksJ4_resize_12 11 rfl rfl)
theorem dJ4_resize_297 : decode cJ4_resize 297 = .ok (.aload 8, 2) := dk_25 8 (dk_at dksJ4_resize_12 14 rfl rfl)
theorem dJ4_resize_299 : decode cJ4_resize 299 = .ok (.astore 12, 2) := dk_58 12 (dk_at dksJ4_resize_12 16 rfl rfl)
theorem dJ4_resize_301 : decode cJ4_resize 301 = .ok (.aload 13, 2) := dk_25 13 (dk_at dksJ4_resize_12 18 rfl rfl)
theorem dJ4_resize_303 : decode cJ4_resize 303 = .ok (.dup, 1) := dk_89 (dk_at dksJ4_resize_12 20 rfl rfl)
theorem dJ4_resize_304 : decode cJ4_resize 304 = .ok (.astore 8, 2) := dk_58 8 (dk_at dksJ4_resize_12 21 rfl rfl)
theorem dJ4_resize_306 : decode cJ4_resize 306 = .ok (.ifnonnull (-71), 3) := dk_199 255 185 (dk_at dksJ4_resize_13 0 rfl rfl)
theorem dJ4_resize_309 : decode cJ4_resize 309 = .ok (.aload 10, 2) := dk_25 10 (dk_at dksJ4_resize_13 3 rfl rfl)
theorem dJ4_resize_311 : decode cJ4_resize 311 = .ok (.ifnull 16, 3) := dk_198 0 16 (dk_at dksJ4_resize_13 5 rfl rfl)
theorem dJ4_resize_314 : decode cJ4_resize 314 = .ok (.aload 10, 2) := dk_25 10 (dk_at dksJ4_resize_13 8 rfl rfl)
theorem dJ4_resize_316 : decode cJ4_resize 316 = .ok (.aconst_null, 1) := dk_1 (dk_at dksJ4_resize_13 10 rfl rfl)
theorem dJ4_resize_317 : decode cJ4_resize 317 = .ok (.putfield 177, 3) := dk_181 0 177 (dk_at dksJ4_resize_13 11 rfl rfl)
theorem dJ4_resize_320 : decode cJ4_resize 320 = .ok (.aload 6, 2) := dk_25 6 (dk_at dksJ4_resize_13 14 rfl rfl)
theorem dJ4_resize_322 : decode cJ4_resize 322 = .ok (.iload 7, 2) := dk_21 7 (dk_at dksJ4_resize_13 16 rfl rfl)
theorem dJ4_resize_324 : decode cJ4_resize 324 = .ok (.aload 9, 2) := dk_25 9 (dk_at dksJ4_resize_13 18 rfl rfl)
theorem dJ4_resize_326 : decode cJ4_resize 326 = .ok (.aastore, 1) := dk_83 (dk_at dksJ4_resize_13 20 rfl rfl)
theorem dJ4_resize_327 : decode cJ4_resize 327 = .ok (.aload 12, 2) := dk_25 12 (dk_at dksJ4_resize_13 21 rfl rfl)
theorem dJ4_resize_329 : decode cJ4_resize 329 = .ok (.ifnull 18, 3) := dk_198 0 18 (dk_at dksJ4_resize_14 0 rfl rfl)
theorem dJ4_resize_332 : decode cJ4_resize 332 = .ok (.aload 12, 2) := dk_25 12 (dk_at dksJ4_resize_14 3 rfl rfl)
theorem dJ4_resize_334 : decode cJ4_resize 334 = .ok (.aconst_null, 1) := dk_1 (dk_at dksJ4_resize_14 5 rfl rfl)
theorem dJ4_resize_335 : decode cJ4_resize 335 = .ok (.putfield 177, 3) := dk_181 0 177 (dk_at dksJ4_resize_14 6 rfl rfl)
theorem dJ4_resize_338 : decode cJ4_resize 338 = .ok (.aload 6, 2) := dk_25 6 (dk_at dksJ4_resize_14 9 rfl rfl)
theorem dJ4_resize_340 : decode cJ4_resize 340 = .ok (.iload 7, 2) := dk_21 7 (dk_at dksJ4_resize_14 11 rfl rfl)
theorem dJ4_resize_342 : decode cJ4_resize 342 = .ok (.iload_n 2, 1) := dk_28 (dk_at dksJ4_resize_14 13 rfl rfl)
theorem dJ4_resize_343 : decode cJ4_resize 343 = .ok (.iadd, 1) := dk_96 (dk_at dksJ4_resize_14 14 rfl rfl)
theorem dJ4_resize_344 : decode cJ4_resize 344 = .ok (.aload 11, 2) := dk_25 11 (dk_at dksJ4_resize_14 15 rfl rfl)
theorem dJ4_resize_346 : decode cJ4_resize 346 = .ok (.aastore, 1) := dk_83 (dk_at dksJ4_resize_14 17 rfl rfl)
theorem dJ4_resize_347 : decode cJ4_resize 347 = .ok (.iinc 7 1, 3) := dk_132 7 1 (dk_at dksJ4_resize_14 18 rfl rfl)
theorem dJ4_resize_350 : decode cJ4_resize 350 = .ok (.goto (-199), 3) := dk_167 255 57 (dk_at dksJ4_resize_14 21 rfl rfl)
theorem dJ4_resize_353 : decode cJ4_resize 353 = .ok (.aload 6, 2) := dk_25 6 (dk_at dksJ4_resize_15 0 rfl rfl)
theorem dJ4_resize_355 : decode cJ4_resize 355 = .ok (.areturn, 1) := dk_176 (dk_at dksJ4_resize_15 2 rfl rfl)
abbrev cJ4_treeifyBin : ByteArray := prog_49_method_18_code
def yJ4_treeifyBin : MethodName := ⟨RJ4, "treeifyBin", "([Ljava/util/HashMap$Node;I)V"⟩
def dkwJ4_treeifyBin_4 : List UInt8 := [21, 4, 25, 6, 91, 83, 198, 0, 9, 25, 6, 43, 182, 0, 224, 177]
abbrev dktJ4_treeifyBin_4 : List UInt8 := dkwJ4_treeifyBin_4 ++ []
def dkwJ4_treeifyBin_3 : List UInt8 := [25, 7, 25, 8, 181, 0, 223, 25, 8, 58, 7, 25, 5, 180, 0, 177, 89, 58, 5, 199, 255, 209, 43]
abbrev dktJ4_treeifyBin_3 : List UInt8 := dkwJ4_treeifyBin_3 ++ dktJ4_treeifyBin_4
def dkwJ4_treeifyBin_2 : List UInt8 := [182, 0, 215, 58, 8, 25, 7, 199, 0, 10, 25, 8, 58, 6, 167, 0, 17, 25, 8, 25, 7, 181, 0, 219]
abbrev dktJ4_treeifyBin_2 : List UInt8 := dkwJ4_treeifyBin_2 ++ dktJ4_treeifyBin_3
def dkwJ4_treeifyBin_1 : List UInt8 := [100, 28, 126, 89, 54, 4, 50, 89, 58, 5, 198, 0, 75, 1, 58, 6, 1, 58, 7, 42, 25, 5, 1]
abbrev dktJ4_treeifyBin_1 : List UInt8 := dkwJ4_treeifyBin_1 ++ dktJ4_treeifyBin_2
def dkwJ4_treeifyBin_0 : List UInt8 := [43, 198, 0, 12, 43, 190, 89, 62, 16, 64, 162, 0, 11, 42, 182, 0, 117, 87, 167, 0, 91, 43, 29, 4]
abbrev dktJ4_treeifyBin_0 : List UInt8 := dkwJ4_treeifyBin_0 ++ dktJ4_treeifyBin_1
theorem dksJ4_treeifyBin_0 : cJ4_treeifyBin.data.toList.drop 0 = dktJ4_treeifyBin_0 := by decide +kernel
theorem dksJ4_treeifyBin_1 : cJ4_treeifyBin.data.toList.drop 24 = dktJ4_treeifyBin_1 := dk_seg dksJ4_treeifyBin_0 24 rfl rfl
theorem dksJ4_treeifyBin_2 : cJ4_treeifyBin.data.toList.drop 47 = dktJ4_treeifyBin_2 := dk_seg dksJ4_treeifyBin_1 23 rfl rfl
theorem dksJ4_treeifyBin_3 : cJ4_treeifyBin.data.toList.drop 71 = dktJ4_treeifyBin_3 := dk_seg dksJ4_treeifyBin_2 24 rfl rfl
theorem dksJ4_treeifyBin_4 : cJ4_treeifyBin.data.toList.drop 94 = dktJ4_treeifyBin_4 := dk_seg dksJ4_treeifyBin_3 23 rfl rfl
theorem dJ4_treeifyBin_0 : decode cJ4_treeifyBin 0 = .ok (.aload_n 1, 1) := dk_43 (dk_at dksJ4_treeifyBin_0 0 rfl rfl)
theorem dJ4_treeifyBin_1 : decode cJ4_treeifyBin 1 = .ok (.ifnull 12, 3) := dk_198 0 12 (dk_at dksJ4_treeifyBin_0 1 rfl rfl)
theorem dJ4_treeifyBin_4 : decode cJ4_treeifyBin 4 = .ok (.aload_n 1, 1) := dk_43 (dk_at dksJ4_treeifyBin_0 4 rfl rfl)
theorem dJ4_treeifyBin_5 : decode cJ4_treeifyBin 5 = .ok (.arraylength, 1) := dk_190 (dk_at dksJ4_treeifyBin_0 5 rfl rfl)
theorem dJ4_treeifyBin_6 : decode cJ4_treeifyBin 6 = .ok (.dup, 1) := dk_89 (dk_at dksJ4_treeifyBin_0 6 rfl rfl)
theorem dJ4_treeifyBin_7 : decode cJ4_treeifyBin 7 = .ok (.istore_n 3, 1) := dk_62 (dk_at dksJ4_treeifyBin_0 7 rfl rfl)
theorem dJ4_treeifyBin_8 : decode cJ4_treeifyBin 8 = .ok (.bipush 64, 2) := dk_16 64 (dk_at dksJ4_treeifyBin_0 8 rfl rfl)
theorem dJ4_treeifyBin_10 : decode cJ4_treeifyBin 10 = .ok (.if_icmp .ge 11, 3) := dk_162 0 11 (dk_at dksJ4_treeifyBin_0 10 rfl rfl)
theorem dJ4_treeifyBin_13 : decode cJ4_treeifyBin 13 = .ok (.aload_n 0, 1) := dk_42 (dk_at dksJ4_treeifyBin_0 13 rfl rfl)
theorem dJ4_treeifyBin_14 : decode cJ4_treeifyBin 14 = .ok (.invokevirtual 117, 3) := dk_182 0 117 (dk_at dksJ4_treeifyBin_0 14 rfl rfl)
theorem dJ4_treeifyBin_17 : decode cJ4_treeifyBin 17 = .ok (.pop, 1) := dk_87 (dk_at dksJ4_treeifyBin_0 17 rfl rfl)
theorem dJ4_treeifyBin_18 : decode cJ4_treeifyBin 18 = .ok (.goto 91, 3) := dk_167 0 91 (dk_at dksJ4_treeifyBin_0 18 rfl rfl)
theorem dJ4_treeifyBin_21 : decode cJ4_treeifyBin 21 = .ok (.aload_n 1, 1) := dk_43 (dk_at dksJ4_treeifyBin_0 21 rfl rfl)
theorem dJ4_treeifyBin_22 : decode cJ4_treeifyBin 22 = .ok (.iload_n 3, 1) := dk_29 (dk_at dksJ4_treeifyBin_0 22 rfl rfl)
theorem dJ4_treeifyBin_23 : decode cJ4_treeifyBin 23 = .ok (.iconst 1, 1) := dk_4 (dk_at dksJ4_treeifyBin_0 23 rfl rfl)
theorem dJ4_treeifyBin_24 : decode cJ4_treeifyBin 24 = .ok (.isub, 1) := dk_100 (dk_at dksJ4_treeifyBin_1 0 rfl rfl)
theorem dJ4_treeifyBin_25 : decode cJ4_treeifyBin 25 = .ok (.iload_n 2, 1) := dk_28 (dk_at dksJ4_treeifyBin_1 1 rfl rfl)
theorem dJ4_treeifyBin_26 : decode cJ4_treeifyBin 26 = .ok (.iand, 1) := dk_126 (dk_at dksJ4_treeifyBin_1 2 rfl rfl)
theorem dJ4_treeifyBin_27 : decode cJ4_treeifyBin 27 = .ok (.dup, 1) := dk_89 (dk_at dksJ4_treeifyBin_1 3 rfl rfl)
theorem dJ4_treeifyBin_28 : decode cJ4_treeifyBin 28 = .ok (.istore 4, 2) := dk_54 4 (dk_at dksJ4_treeifyBin_1 4 rfl rfl)
theorem dJ4_treeifyBin_30 : decode cJ4_treeifyBin 30 = .ok (.aaload, 1) := dk_50 (dk_at dksJ4_treeifyBin_1 6 rfl rfl)
theorem dJ4_treeifyBin_31 : decode cJ4_treeifyBin 31 = .ok (.dup, 1) := dk_89 (dk_at dksJ4_treeifyBin_1 7 rfl rfl)
theorem dJ4_treeifyBin_32 : decode cJ4_treeifyBin 32 = .ok (.astore 5, 2) := dk_58 5 (dk_at dksJ4_treeifyBin_1 8 rfl rfl)
theorem dJ4_treeifyBin_34 : decode cJ4_treeifyBin 34 = .ok (.ifnull 75, 3) := dk_198 0 75 (dk_at dksJ4_treeifyBin_1 10 rfl rfl)
theorem dJ4_treeifyBin_37 : decode cJ4_treeifyBin 37 = .ok (.aconst_null, 1) := dk_1 (dk_at dksJ4_treeifyBin_1 13 rfl rfl)
theorem dJ4_treeifyBin_38 : decode cJ4_treeifyBin 38 = .ok (.astore 6, 2) := dk_58 6 (dk_at dksJ4_treeifyBin_1 14 rfl rfl)
theorem dJ4_treeifyBin_40 : decode cJ4_treeifyBin 40 = .ok (.aconst_null, 1) := dk_1 (dk_at dksJ4_treeifyBin_1 16 rfl rfl)
theorem dJ4_treeifyBin_41 : decode cJ4_treeifyBin 41 = .ok (.astore 7, 2) := dk_58 7 (dk_at dksJ4_treeifyBin_1 17 rfl rfl)
theorem dJ4_treeifyBin_43 : decode cJ4_treeifyBin 43 = .ok (.aload_n 0, 1) := dk_42 (dk_at dksJ4_treeifyBin_1 19 rfl rfl)
theorem dJ4_treeifyBin_44 : decode cJ4_treeifyBin 44 = .ok (.aload 5, 2) := dk_25 5 (dk_at dksJ4_treeifyBin_1 20 rfl rfl)
theorem dJ4_treeifyBin_46 : decode cJ4_treeifyBin 46 = .ok (.aconst_null, 1) := dk_1 (dk_at dksJ4_treeifyBin_1 22 rfl rfl)
theorem dJ4_treeifyBin_47 : decode cJ4_treeifyBin 47 = .ok (.invokevirtual 215, 3) := dk_182 0 215 (dk_at dksJ4_treeifyBin_2 0 rfl rfl)
theorem dJ4_treeifyBin_50 : decode cJ4_treeifyBin 50 = .ok (.astore 8, 2) := dk_58 8 (dk_at dksJ4_treeifyBin_2 3 rfl rfl)
theorem dJ4_treeifyBin_52 : decode cJ4_treeifyBin 52 = .ok (.aload 7, 2) := dk_25 7 (dk_at dksJ4_treeifyBin_2 5 rfl rfl)
theorem dJ4_treeifyBin_54 : decode cJ4_treeifyBin 54 = .ok (.ifnonnull 10, 3) := dk_199 0 10 (dk_at dksJ4_treeifyBin_2 7 rfl rfl)
theorem dJ4_treeifyBin_57 : decode cJ4_treeifyBin 57 = .ok (.aload 8, 2) := dk_25 8 (dk_at dksJ4_treeifyBin_2 10 rfl rfl)
theorem dJ4_treeifyBin_59 : decode cJ4_treeifyBin 59 = .ok (.astore 6, 2) := dk_58 6 (dk_at dksJ4_treeifyBin_2 12 rfl rfl)
theorem dJ4_treeifyBin_61 : decode cJ4_treeifyBin 61 = .ok (.goto 17, 3) := dk_167 0 17 (dk_at dksJ4_treeifyBin_2 14 rfl rfl)
theorem dJ4_treeifyBin_64 : decode cJ4_treeifyBin 64 = .ok (.aload 8, 2) := dk_25 8 (dk_at dksJ4_treeifyBin_2 17 rfl rfl)
theorem dJ4_treeifyBin_66 : decode cJ4_treeifyBin 66 = .ok (.aload 7, 2) := dk_25 7 (dk_at dksJ4_treeifyBin_2 19 rfl rfl)
theorem dJ4_treeifyBin_68 : decode cJ4_treeifyBin 68 = .ok (.putfield 219, 3) := dk_181 0 219 (dk_at dksJ4_treeifyBin_2 21 rfl rfl)
theorem dJ4_treeifyBin_71 : decode cJ4_treeifyBin 71 = .ok (.aload 7, 2) := dk_25 7 (dk_at dksJ4_treeifyBin_3 0 rfl rfl)
theorem dJ4_treeifyBin_73 : decode cJ4_treeifyBin 73 = .ok (.aload 8, 2) := dk_25 8 (dk_at dksJ4_treeifyBin_3 2 rfl rfl)
theorem dJ4_treeifyBin_75 : decode cJ4_treeifyBin 75 = .ok (.putfield 223, 3) := dk_181 0 223 (dk_at dksJ4_treeifyBin_3 4 rfl rfl)
theorem dJ4_treeifyBin_78 : decode cJ4_treeifyBin 78 = .ok (.aload 8, 2) := dk_25 8 (dk_at dksJ4_treeifyBin_3 7 rfl rfl)
theorem dJ4_treeifyBin_80 : decode cJ4_treeifyBin 80 = .ok (.astore 7, 2) := dk_58 7 (dk_at dksJ4_treeifyBin_3 9 rfl rfl)
theorem dJ4_treeifyBin_82 : decode cJ4_treeifyBin 82 = .ok (.aload 5, 2) := dk_25 5 (dk_at dksJ4_treeifyBin_3 11 rfl rfl)
theorem dJ4_treeifyBin_84 : decode cJ4_treeifyBin 84 = .ok (.getfield 177, 3) := dk_180 0 177 (dk_at dksJ4_treeifyBin_3 13 rfl rfl)
theorem dJ4_treeifyBin_87 : decode cJ4_treeifyBin 87 = .ok (.dup, 1) := dk_89 (dk_at dksJ4_treeifyBin_3 16 rfl rfl)
theorem dJ4_treeifyBin_88 : decode cJ4_treeifyBin 88 = .ok (.astore 5, 2) := dk_58 5 (dk_at dksJ4_treeifyBin_3 17 rfl rfl)
theorem dJ4_treeifyBin_90 : decode cJ4_treeifyBin 90 = .ok (.ifnonnull (-47), 3) := dk_199 255 209 (dk_at dksJ4_treeifyBin_3 19 rfl rfl)
theorem dJ4_treeifyBin_93 : decode cJ4_treeifyBin 93 = .ok (.aload_n 1, 1) := dk_43 (dk_at dksJ4_treeifyBin_3 22 rfl rfl)
theorem dJ4_treeifyBin_94 : decode cJ4_treeifyBin 94 = .ok (.iload 4, 2) := dk_21 4 (dk_at dksJ4_treeifyBin_4 0 rfl rfl)
theorem dJ4_treeifyBin_96 : decode cJ4_treeifyBin 96 = .ok (.aload 6, 2) := dk_25 6 (dk_at dksJ4_treeifyBin_4 2 rfl rfl)
theorem dJ4_treeifyBin_98 : decode cJ4_treeifyBin 98 = .ok (.dup_x2, 1) := dk_91 (dk_at dksJ4_treeifyBin_4 4 rfl rfl)
theorem dJ4_treeifyBin_99 : decode cJ4_treeifyBin 99 = .ok (.aastore, 1) := dk_83 (dk_at dksJ4_treeifyBin_4 5 rfl rfl)
theorem dJ4_treeifyBin_100 : decode cJ4_treeifyBin 100 = .ok (.ifnull 9, 3) := dk_198 0 9 (dk_at dksJ4_treeifyBin_4 6 rfl rfl)
theorem dJ4_treeifyBin_103 : decode cJ4_treeifyBin 103 = .ok (.aload 6, 2) := dk_25 6 (dk_at dksJ4_treeifyBin_4 9 rfl rfl)
theorem dJ4_treeifyBin_105 : decode cJ4_treeifyBin 105 = .ok (.aload_n 1, 1) := dk_43 (dk_at dksJ4_treeifyBin_4 11 rfl rfl)
theorem dJ4_treeifyBin_106 : decode cJ4_treeifyBin 106 = .ok (.invokevirtual 224, 3) := dk_182 0 224 (dk_at dksJ4_treeifyBin_4 12 rfl rfl)
theorem dJ4_treeifyBin_109 : decode cJ4_treeifyBin 109 = .ok (.return_, 1) := dk_177 (dk_at dksJ4_treeifyBin_4 15 rfl rfl)
abbrev cJ4_containsKey : ByteArray := prog_49_method_14_code
def yJ4_containsKey : MethodName := ⟨RJ4, "containsKey", "(Ljava/lang/Object;)Z"⟩
def dkwJ4_containsKey_0 : List UInt8 := [42, 43, 182, 0, 158, 198, 0, 7, 4, 167, 0, 4, 3, 172]
abbrev dktJ4_containsKey_0 : List UInt8 := dkwJ4_containsKey_0 ++ []
theorem dksJ4_containsKey_0 : cJ4_containsKey.data.toList.drop 0 = dktJ4_containsKey_0 := by decide +kernel
theorem dJ4_containsKey_0 : decode cJ4_containsKey 0 = .ok (.aload_n 0, 1) := dk_42 (dk_at dksJ4_containsKey_0 0 rfl rfl)
theorem dJ4_containsKey_1 : decode cJ4_containsKey 1 = .ok (.aload_n 1, 1) := dk_43 (dk_at dksJ4_containsKey_0 1 rfl rfl)
theorem dJ4_containsKey_2 : decode cJ4_containsKey 2 = .ok (.invokevirtual 158, 3) := dk_182 0 158 (dk_at dksJ4_containsKey_0 2 rfl rfl)
theorem dJ4_containsKey_5 : decode cJ4_containsKey 5 = .ok (.ifnull 7, 3) := dk_198 0 7 (dk_at dksJ4_containsKey_0 5 rfl rfl)
theorem dJ4_containsKey_8 : decode cJ4_containsKey 8 = .ok (.iconst 1, 1) := dk_4 (dk_at dksJ4_containsKey_0 8 rfl rfl)
theorem dJ4_containsKey_9 : decode cJ4_containsKey 9 = .ok (.goto 4, 3) := dk_167 0 4 (dk_at dksJ4_containsKey_0 9 rfl rfl)
theorem dJ4_containsKey_12 : decode cJ4_containsKey 12 = .ok (.iconst 0, 1) := dk_3 (dk_at dksJ4_containsKey_0 12 rfl rfl)
theorem dJ4_containsKey_13 : decode cJ4_containsKey 13 = .ok (.ireturn, 1) := dk_172 (dk_at dksJ4_containsKey_0 13 rfl rfl)
abbrev cJ4_getNode : ByteArray := prog_49_method_13_code
def yJ4_getNode : MethodName := ⟨RJ4, "getNode", "(Ljava/lang/Object;)Ljava/util/HashMap$Node;"⟩
def dkwJ4_getNode_6 : List UInt8 := [89, 58, 4, 199, 255, 210, 1, 176]
abbrev dktJ4_getNode_6 : List UInt8 := dkwJ4_getNode_6 ++ []
def dkwJ4_getNode_5 : List UInt8 := [165, 0, 16, 43, 198, 0, 15, 43, 25, 7, 182, 0, 173, 153, 0, 6, 25, 4, 176, 25, 4, 180, 0, 177]
abbrev dktJ4_getNode_5 : List UInt8 := dkwJ4_getNode_5 ++ dktJ4_getNode_6
def dkwJ4_getNode_4 : List UInt8 := [43, 182, 0, 182, 176, 25, 4, 180, 0, 168, 21, 6, 160, 0, 31, 25, 4, 180, 0, 170, 89, 58, 7, 43]
abbrev dktJ4_getNode_4 : List UInt8 := dkwJ4_getNode_4 ++ dktJ4_getNode_5
def dkwJ4_getNode_3 : List UInt8 := [176, 45, 180, 0, 177, 89, 58, 4, 198, 0, 70, 45, 193, 0, 180, 153, 0, 14, 45, 192, 0, 180, 21, 6]
abbrev dktJ4_getNode_3 : List UInt8 := dkwJ4_getNode_3 ++ dktJ4_getNode_4
def dkwJ4_getNode_2 : List UInt8 := [180, 0, 170, 89, 58, 7, 43, 165, 0, 16, 43, 198, 0, 14, 43, 25, 7, 182, 0, 173, 153, 0, 5, 45]
abbrev dktJ4_getNode_2 : List UInt8 := dkwJ4_getNode_2 ++ dktJ4_getNode_3
def dkwJ4_getNode_1 : List UInt8 := [184, 0, 149, 89, 54, 6, 126, 50, 89, 78, 198, 0, 115, 45, 180, 0, 168, 21, 6, 160, 0, 29, 45]
abbrev dktJ4_getNode_1 : List UInt8 := dkwJ4_getNode_1 ++ dktJ4_getNode_2
def dkwJ4_getNode_0 : List UInt8 := [42, 180, 0, 105, 89, 77, 198, 0, 142, 44, 190, 89, 54, 5, 158, 0, 134, 44, 21, 5, 4, 100, 43]
abbrev dktJ4_getNode_0 : List UInt8 := dkwJ4_getNode_0 ++ dktJ4_getNode_1
theorem dksJ4_getNode_0 : cJ4_getNode.data.toList.drop 0 = dktJ4_getNode_0 := by decide +kernel
theorem dksJ4_getNode_1 : cJ4_getNode.data.toList.drop 23 = dktJ4_getNode_1 := dk_seg dksJ4_getNode_0 23 rfl rfl
theorem dksJ4_getNode_2 : cJ4_getNode.data.toList.drop 46 = dktJ4_getNode_2 := dk_seg dksJ4_getNode_1 23 rfl rfl
theorem dksJ4_getNode_3 : cJ4_getNode.data.toList.drop 70 = dktJ4_getNode_3 := dk_seg dksJ4_getNode_2 24 rfl rfl
theorem dksJ4_getNode_4 : cJ4_getNode.data.toList.drop 94 = dktJ4_getNode_4 := dk_seg dksJ4_getNode_3 24 rfl rfl
theorem dksJ4_getNode_5 : cJ4_getNode.data.toList.drop 118 = dktJ4_getNode_5 := dk_seg dksJ4_getNode_4 24 rfl rfl
theorem dksJ4_getNode_6 : cJ4_getNode.data.toList.drop 142 = dktJ4_getNode_6 := dk_seg dksJ4_getNode_5 24 rfl rfl
theorem dJ4_getNode_0 : decode cJ4_getNode 0 = .ok (.aload_n 0, 1) := dk_42 (dk_at dksJ4_getNode_0 0 rfl rfl)
theorem dJ4_getNode_1 : decode cJ4_getNode 1 = .ok (.getfield 105, 3) := dk_180 0 105 (dk_at dksJ4_getNode_0 1 rfl rfl)
theorem dJ4_getNode_4 : decode cJ4_getNode 4 = .ok (.dup, 1) := dk_89 (dk_at dksJ4_getNode_0 4 rfl rfl)
theorem dJ4_getNode_5 : decode cJ4_getNode 5 = .ok (.astore_n 2, 1) := dk_77 (dk_at dksJ4_getNode_0 5 rfl rfl)
theorem dJ4_getNode_6 : decode cJ4_getNode 6 = .ok (.ifnull 142, 3) := dk_198 0 142 (dk_at dksJ4_getNode_0 6 rfl rfl)
theorem dJ4_getNode_9 : decode cJ4_getNode 9 = .ok (.aload_n 2, 1) := dk_44 (dk_at dksJ4_getNode_0 9 rfl rfl)
theorem dJ4_getNode_10 : decode cJ4_getNode 10 = .ok (.arraylength, 1) := dk_190 (dk_at dksJ4_getNode_0 10 rfl rfl)
theorem dJ4_getNode_11 : decode cJ4_getNode 11 = .ok (.dup, 1) := dk_89 (dk_at dksJ4_getNode_0 11 rfl rfl)
theorem dJ4_getNode_12 : decode cJ4_getNode 12 = .ok (.istore 5, 2) := dk_54 5 (dk_at dksJ4_getNode_0 12 rfl rfl)
theorem dJ4_getNode_14 : decode cJ4_getNode 14 = .ok (.ifCond .le 134, 3) := dk_158 0 134 (dk_at dksJ4_getNode_0 14 rfl rfl)
theorem dJ4_getNode_17 : decode cJ4_getNode 17 = .ok (.aload_n 2, 1) := dk_44 (dk_at dksJ4_getNode_0 17 rfl rfl)
theorem dJ4_getNode_18 : decode cJ4_getNode 18 = .ok (.iload 5, 2) := dk_21 5 (dk_at dksJ4_getNode_0 18 rfl rfl)
theorem dJ4_getNode_20 : decode cJ4_getNode 20 = .ok (.iconst 1, 1) := dk_4 (dk_at dksJ4_getNode_0 20 rfl rfl)
theorem dJ4_getNode_21 : decode cJ4_getNode 21 = .ok (.isub, 1) := dk_100 (dk_at dksJ4_getNode_0 21 rfl rfl)
theorem dJ4_getNode_22 : decode cJ4_getNode 22 = .ok (.aload_n 1, 1) := dk_43 (dk_at dksJ4_getNode_0 22 rfl rfl)
theorem dJ4_getNode_23 : decode cJ4_getNode 23 = .ok (.invokestatic 149, 3) := dk_184 0 149 (dk_at dksJ4_getNode_1 0 rfl rfl)
theorem dJ4_getNode_26 : decode cJ4_getNode 26 = .ok (.dup, 1) := dk_89 (dk_at dksJ4_getNode_1 3 rfl rfl)
theorem dJ4_getNode_27 : decode cJ4_getNode 27 = .ok (.istore 6, 2) := dk_54 6 (dk_at dksJ4_getNode_1 4 rfl rfl)
theorem dJ4_getNode_29 : decode cJ4_getNode 29 = .ok (.iand, 1) := dk_126 (dk_at dksJ4_getNode_1 6 rfl rfl)
theorem dJ4_getNode_30 : decode cJ4_getNode 30 = .ok (.aaload, 1) := dk_50 (dk_at dksJ4_getNode_1 7 rfl rfl)
theorem dJ4_getNode_31 : decode cJ4_getNode 31 = .ok (.dup, 1) := dk_89 (dk_at dksJ4_getNode_1 8 rfl rfl)
theorem dJ4_getNode_32 : decode cJ4_getNode 32 = .ok (.astore_n 3, 1) := dk_78 (dk_at dksJ4_getNode_1 9 rfl rfl)
theorem dJ4_getNode_33 : decode cJ4_getNode 33 = .ok (.ifnull 115, 3) := dk_198 0 115 (dk_at dksJ4_getNode_1 10 rfl rfl)
theorem dJ4_getNode_36 : decode cJ4_getNode 36 = .ok (.aload_n 3, 1) := dk_45 (dk_at dksJ4_getNode_1 13 rfl rfl)
theorem dJ4_getNode_37 : decode cJ4_getNode 37 = .ok (.getfield 168, 3) := dk_180 0 168 (dk_at dksJ4_getNode_1 14 rfl rfl)
theorem dJ4_getNode_40 : decode cJ4_getNode 40 = .ok (.iload 6, 2) := dk_21 6 (dk_at dksJ4_getNode_1 17 rfl rfl)
theorem dJ4_getNode_42 : decode cJ4_getNode 42 = .ok (.if_icmp .ne 29, 3) := dk_160 0 29 (dk_at dksJ4_getNode_1 19 rfl rfl)
theorem dJ4_getNode_45 : decode cJ4_getNode 45 = .ok (.aload_n 3, 1) := dk_45 (dk_at dksJ4_getNode_1 22 rfl rfl)
theorem dJ4_getNode_46 : decode cJ4_getNode 46 = .ok (.getfield 170, 3) := dk_180 0 170 (dk_at dksJ4_getNode_2 0 rfl rfl)
theorem dJ4_getNode_49 : decode cJ4_getNode 49 = .ok (.dup, 1) := dk_89 (dk_at dksJ4_getNode_2 3 rfl rfl)
theorem dJ4_getNode_50 : decode cJ4_getNode 50 = .ok (.astore 7, 2) := dk_58 7 (dk_at dksJ4_getNode_2 4 rfl rfl)
theorem dJ4_getNode_52 : decode cJ4_getNode 52 = .ok (.aload_n 1, 1) := dk_43 (dk_at dksJ4_getNode_2 6 rfl rfl)
theorem dJ4_getNode_53 : decode cJ4_getNode 53 = .ok (.if_acmp .eq 16, 3) := dk_165 0 16 (dk_at dksJ4_getNode_2 7 rfl rfl)
theorem dJ4_getNode_56 : decode cJ4_getNode 56 = .ok (.aload_n 1, 1) := dk_43 (dk_at dksJ4_getNode_2 10 rfl rfl)
theorem dJ4_getNode_57 : decode cJ4_getNode 57 = .ok (.ifnull 14, 3) := dk_198 0 14 (dk_at dksJ4_getNode_2 11 rfl rfl)
theorem dJ4_getNode_60 : decode cJ4_getNode 60 = .ok (.aload_n 1, 1) := dk_43 (dk_at dksJ4_getNode_2 14 rfl rfl)
theorem dJ4_getNode_61 : decode cJ4_getNode 61 = .ok (.aload 7, 2) := dk_25 7 (dk_at dksJ4_getNode_2 15 rfl rfl)
theorem dJ4_getNode_63 : decode cJ4_getNode 63 = .ok (.invokevirtual 173, 3) := dk_182 0 173 (dk_at dksJ4_getNode_2 17 rfl rfl)
theorem dJ4_getNode_66 : decode cJ4_getNode 66 = .ok (.ifCond .eq 5, 3) := dk_153 0 5 (dk_at dksJ4_getNode_2 20 rfl rfl)
theorem dJ4_getNode_69 : decode cJ4_getNode 69 = .ok (.aload_n 3, 1) := dk_45 (dk_at dksJ4_getNode_2 23 rfl rfl)
theorem dJ4_getNode_70 : decode cJ4_getNode 70 = .ok (.areturn, 1) := dk_176 (dk_at dksJ4_getNode_3 0 rfl rfl)
theorem dJ4_getNode_71 : decode cJ4_getNode 71 = .ok (.aload_n 3, 1) := dk_45 (dk_at dksJ4_getNode_3 1 rfl rfl)
theorem dJ4_getNode_72 : decode cJ4_getNode 72 = .ok (.getfield 177, 3) := dk_180 0 177 (dk_at dksJ4_getNode_3 2 rfl rfl)
theorem dJ4_getNode_75 : decode cJ4_getNode 75 = .ok (.dup, 1) := dk_89 (dk_at dksJ4_getNode_3 5 rfl rfl)
theorem dJ4_getNode_76 : decode cJ4_getNode 76 = .ok (.astore 4, 2) := dk_58 4 (dk_at dksJ4_getNode_3 6 rfl rfl)
theorem dJ4_getNode_78 : decode cJ4_getNode 78 = .ok (.ifnull 70, 3) := dk_198 0 70 (dk_at dksJ4_getNode_3 8 rfl rfl)
theorem dJ4_getNode_81 : decode cJ4_getNode 81 = .ok (.aload_n 3, 1) := dk_45 (dk_at dksJ4_getNode_3 11 rfl rfl)
theorem dJ4_getNode_82 : decode cJ4_getNode 82 = .ok (.instanceof 180, 3) := dk_193 0 180 (dk_at dksJ4_getNode_3 12 rfl rfl)
theorem dJ4_getNode_85 : decode cJ4_getNode 85 = .ok (.ifCond .eq 14, 3) := dk_153 0 14 (dk_at dksJ4_getNode_3 15 rfl rfl)
theorem dJ4_getNode_88 : decode cJ4_getNode 88 = .ok (.aload_n 3, 1) := dk_45 (dk_at dksJ4_getNode_3 18 rfl rfl)
theorem dJ4_getNode_89 : decode cJ4_getNode 89 = .ok (.checkcast 180, 3) := dk_192 0 180 (dk_at dksJ4_getNode_3 19 rfl rfl)
theorem dJ4_getNode_92 : decode cJ4_getNode 92 = .ok (.iload 6, 2) := dk_21 6 (dk_at dksJ4_getNode_3 22 rfl rfl)
theorem dJ4_getNode_94 : decode cJ4_getNode 94 = .ok (.aload_n 1, 1) := dk_43 (dk_at dksJ4_getNode_4 0 rfl rfl)
theorem dJ4_getNode_95 : decode cJ4_getNode 95 = .ok (.invokevirtual 182, 3) := dk_182 0 182 (dk_at dksJ4_getNode_4 1 rfl rfl)
theorem dJ4_getNode_98 : decode cJ4_getNode 98 = .ok (.areturn, 1) := dk_176 (dk_at dksJ4_getNode_4 4 rfl rfl)
theorem dJ4_getNode_99 : decode cJ4_getNode 99 = .ok (.aload 4, 2) := dk_25 4 (dk_at dksJ4_getNode_4 5 rfl rfl)
theorem dJ4_getNode_101 : decode cJ4_getNode 101 = .ok (.getfield 168, 3) := dk_180 0 168 (dk_at dksJ4_getNode_4 7 rfl rfl)
theorem dJ4_getNode_104 : decode cJ4_getNode 104 = .ok (.iload 6, 2) := dk_21 6 (dk_at dksJ4_getNode_4 10 rfl rfl)
theorem dJ4_getNode_106 : decode cJ4_getNode 106 = .ok (.if_icmp .ne 31, 3) := dk_160 0 31 (dk_at dksJ4_getNode_4 12 rfl rfl)
theorem dJ4_getNode_109 : decode cJ4_getNode 109 = .ok (.aload 4, 2) := dk_25 4 (dk_at dksJ4_getNode_4 15 rfl rfl)
theorem dJ4_getNode_111 : decode cJ4_getNode 111 = .ok (.getfield 170, 3) := dk_180 0 170 (dk_at dksJ4_getNode_4 17 rfl rfl)
theorem dJ4_getNode_114 : decode cJ4_getNode 114 = .ok (.dup, 1) := dk_89 (dk_at dksJ4_getNode_4 20 rfl rfl)
theorem dJ4_getNode_115 : decode cJ4_getNode 115 = .ok (.astore 7, 2) := dk_58 7 (dk_at dksJ4_getNode_4 21 rfl rfl)
theorem dJ4_getNode_117 : decode cJ4_getNode 117 = .ok (.aload_n 1, 1) := dk_43 (dk_at dksJ4_getNode_4 23 rfl rfl)
theorem dJ4_getNode_118 : decode cJ4_getNode 118 = .ok (.if_acmp .eq 16, 3) := dk_165 0 16 (dk_at dksJ4_getNode_5 0 rfl rfl)
theorem dJ4_getNode_121 : decode cJ4_getNode 121 = .ok (.aload_n 1, 1) := dk_43 (dk_at dksJ4_getNode_5 3 rfl rfl)
theorem dJ4_getNode_122 : decode cJ4_getNode 122 = .ok (.ifnull 15, 3) := dk_198 0 15 (dk_at dksJ4_getNode_5 4 rfl rfl)
theorem dJ4_getNode_125 : decode cJ4_getNode 125 = .ok (.aload_n 1, 1) := dk_43 (dk_at dksJ4_getNode_5 7 rfl rfl)
theorem dJ4_getNode_126 : decode cJ4_getNode 126 = .ok (.aload 7, 2) := dk_25 7 (dk_at dksJ4_getNode_5 8 rfl rfl)
theorem dJ4_getNode_128 : decode cJ4_getNode 128 = .ok (.invokevirtual 173, 3) := dk_182 0 173 (dk_at dksJ4_getNode_5 10 rfl rfl)
theorem dJ4_getNode_131 : decode cJ4_getNode 131 = .ok (.ifCond .eq 6, 3) := dk_153 0 6 (dk_at dksJ4_getNode_5 13 rfl rfl)
theorem dJ4_getNode_134 : decode cJ4_getNode 134 = .ok (.aload 4, 2) := dk_25 4 (dk_at dksJ4_getNode_5 16 rfl rfl)
theorem dJ4_getNode_136 : decode cJ4_getNode 136 = .ok (.areturn, 1) := dk_176 (dk_at dksJ4_getNode_5 18 rfl rfl)
theorem dJ4_getNode_137 : decode cJ4_getNode 137 = .ok (.aload 4, 2) := dk_25 4 (dk_at dksJ4_getNode_5 19 rfl rfl)
theorem dJ4_getNode_139 : decode cJ4_getNode 139 = .ok (.getfield 177, 3) := dk_180 0 177 (dk_at dksJ4_getNode_5 21 rfl rfl)
theorem dJ4_getNode_142 : decode cJ4_getNode 142 = .ok (.dup, 1) := dk_89 (dk_at dksJ4_getNode_6 0 rfl rfl)
theorem dJ4_getNode_143 : decode cJ4_getNode 143 = .ok (.astore 4, 2) := dk_58 4 (dk_at dksJ4_getNode_6 1 rfl rfl)
theorem dJ4_getNode_145 : decode cJ4_getNode 145 = .ok (.ifnonnull (-46), 3) := dk_199 255 210 (dk_at dksJ4_getNode_6 3 rfl rfl)
theorem dJ4_getNode_148 : decode cJ4_getNode 148 = .ok (.aconst_null, 1) := dk_1 (dk_at dksJ4_getNode_6 6 rfl rfl)
theorem dJ4_getNode_149 : decode cJ4_getNode 149 = .ok (.areturn, 1) := dk_176 (dk_at dksJ4_getNode_6 7 rfl rfl)
abbrev cJ4_size : ByteArray := prog_49_method_10_code
def yJ4_size : MethodName := ⟨RJ4, "size", "()I"⟩
theorem dJ4_size_0 : decode cJ4_size 0 = .ok (.aload_n 0, 1) := by decide +kernel
theorem dJ4_size_1 : decode cJ4_size 1 = .ok (.getfield 156, 3) := by decide +kernel
theorem dJ4_size_4 : decode cJ4_size 4 = .ok (.ireturn, 1) := by decide +kernel
abbrev cJ4_remove : ByteArray := prog_49_method_20_code
def yJ4_remove : MethodName := ⟨RJ4, "remove", "(Ljava/lang/Object;)Ljava/lang/Object;"⟩
def dkwJ4_remove_1 : List UInt8 := [180, 0, 162, 176]
abbrev dktJ4_remove_1 : List UInt8 := dkwJ4_remove_1 ++ []
def dkwJ4_remove_0 : List UInt8 := [42, 43, 184, 0, 149, 43, 1, 3, 4, 182, 0, 228, 89, 77, 199, 0, 7, 1, 167, 0, 7, 44]
abbrev dktJ4_remove_0 : List UInt8 := dkwJ4_remove_0 ++ dktJ4_remove_1
theorem dksJ4_remove_0 : cJ4_remove.data.toList.drop 0 = dktJ4_remove_0 := by decide +kernel
theorem dksJ4_remove_1 : cJ4_remove.data.toList.drop 22 = dktJ4_remove_1 := dk_seg dksJ4_remove_0 22 rfl rfl
theorem dJ4_remove_0 : decode cJ4_remove 0 = .ok (.aload_n 0, 1) := dk_42 (dk_at dksJ4_remove_0 0 rfl rfl)
theorem dJ4_remove_1 : decode cJ4_remove 1 = .ok (.aload_n 1, 1) := dk_43 (dk_at dksJ4_remove_0 1 rfl rfl)
theorem dJ4_remove_2 : decode cJ4_remove 2 = .ok (.invokestatic 149, 3) := dk_184 0 149 (dk_at dksJ4_remove_0 2 rfl rfl)
theorem dJ4_remove_5 : decode cJ4_remove 5 = .ok (.aload_n 1, 1) := dk_43 (dk_at dksJ4_remove_0 5 rfl rfl)
theorem dJ4_remove_6 : decode cJ4_remove 6 = .ok (.aconst_null, 1) := dk_1 (dk_at dksJ4_remove_0 6 rfl rfl)
theorem dJ4_remove_7 : decode cJ4_remove 7 = .ok (.iconst 0, 1) := dk_3 (dk_at dksJ4_remove_0 7 rfl rfl)
theorem dJ4_remove_8 : decode cJ4_remove 8 = .ok (.iconst 1, 1) := dk_4 (dk_at dksJ4_remove_0 8 rfl rfl)
theorem dJ4_remove_9 : decode cJ4_remove 9 = .ok (.invokevirtual 228, 3) := dk_182 0 228 (dk_at dksJ4_remove_0 9 rfl rfl)
theorem dJ4_remove_12 : decode cJ4_remove 12 = .ok (.dup, 1) := dk_89 (dk_at dksJ4_remove_0 12 rfl rfl)
theorem dJ4_remove_13 : decode cJ4_remove 13 = .ok (.astore_n 2, 1) := dk_77 (dk_at dksJ4_remove_0 13 rfl rfl)
theorem dJ4_remove_14 : decode cJ4_remove 14 = .ok (.ifnonnull 7, 3) := dk_199 0 7 (dk_at dksJ4_remove_0 14 rfl rfl)
theorem dJ4_remove_17 : decode cJ4_remove 17 = .ok (.aconst_null, 1) := dk_1 (dk_at dksJ4_remove_0 17 rfl rfl)
theorem dJ4_remove_18 : decode cJ4_remove 18 = .ok (.goto 7, 3) := dk_167 0 7 (dk_at dksJ4_remove_0 18 rfl rfl)
theorem dJ4_remove_21 : decode cJ4_remove 21 = .ok (.aload_n 2, 1) := dk_44 (dk_at dksJ4_remove_0 21 rfl rfl)
theorem dJ4_remove_22 : decode cJ4_remove 22 = .ok (.getfield 162, 3) := dk_180 0 162 (dk_at dksJ4_remove_1 0 rfl rfl)
theorem dJ4_remove_25 : decode cJ4_remove 25 = .ok (.areturn, 1) := dk_176 (dk_at dksJ4_remove_1 3 rfl rfl)
abbrev cJ4_removeNode : ByteArray := prog_49_method_21_code
def yJ4_removeNode : MethodName := ⟨RJ4, "removeNode", "(ILjava/lang/Object;Ljava/lang/Object;ZZ)Ljava/util/HashMap$Node;"⟩
def dkwJ4_removeNode_12 : List UInt8 := [181, 0, 156, 42, 25, 10, 182, 0, 236, 25, 10, 176, 1, 176]
abbrev dktJ4_removeNode_12 : List UInt8 := dkwJ4_removeNode_12 ++ []
def dkwJ4_removeNode_11 : List UInt8 := [180, 0, 177, 181, 0, 177, 42, 89, 180, 0, 202, 4, 96, 181, 0, 202, 42, 89, 180, 0, 156, 4, 100]
abbrev dktJ4_removeNode_11 : List UInt8 := dkwJ4_removeNode_11 ++ dktJ4_removeNode_12
def dkwJ4_removeNode_10 : List UInt8 := [25, 10, 25, 7, 166, 0, 16, 25, 6, 21, 9, 25, 10, 180, 0, 177, 83, 167, 0, 13, 25, 7, 25, 10]
abbrev dktJ4_removeNode_10 : List UInt8 := dkwJ4_removeNode_10 ++ dktJ4_removeNode_11
def dkwJ4_removeNode_9 : List UInt8 := [25, 10, 193, 0, 180, 153, 0, 19, 25, 10, 192, 0, 180, 42, 25, 6, 21, 5, 182, 0, 232, 167, 0, 33]
abbrev dktJ4_removeNode_9 : List UInt8 := dkwJ4_removeNode_9 ++ dktJ4_removeNode_10
def dkwJ4_removeNode_8 : List UInt8 := [180, 0, 162, 89, 58, 13, 45, 165, 0, 16, 45, 198, 0, 95, 45, 25, 13, 182, 0, 173, 153, 0, 86]
abbrev dktJ4_removeNode_8 : List UInt8 := dkwJ4_removeNode_8 ++ dktJ4_removeNode_9
def dkwJ4_removeNode_7 : List UInt8 := [25, 11, 180, 0, 177, 89, 58, 11, 199, 255, 203, 25, 10, 198, 0, 116, 21, 4, 153, 0, 28, 25, 10]
abbrev dktJ4_removeNode_7 : List UInt8 := dkwJ4_removeNode_7 ++ dktJ4_removeNode_8
def dkwJ4_removeNode_6 : List UInt8 := [198, 0, 19, 44, 25, 12, 182, 0, 173, 153, 0, 10, 25, 11, 58, 10, 167, 0, 18, 25, 11, 58, 7]
abbrev dktJ4_removeNode_6 : List UInt8 := dkwJ4_removeNode_6 ++ dktJ4_removeNode_7
def dkwJ4_removeNode_5 : List UInt8 := [25, 11, 180, 0, 168, 27, 160, 0, 35, 25, 11, 180, 0, 170, 89, 58, 12, 44, 165, 0, 16, 44]
abbrev dktJ4_removeNode_5 : List UInt8 := dkwJ4_removeNode_5 ++ dktJ4_removeNode_6
def dkwJ4_removeNode_4 : List UInt8 := [25, 7, 193, 0, 180, 153, 0, 18, 25, 7, 192, 0, 180, 27, 44, 182, 0, 182, 58, 10, 167, 0, 59]
abbrev dktJ4_removeNode_4 : List UInt8 := dkwJ4_removeNode_4 ++ dktJ4_removeNode_5
def dkwJ4_removeNode_3 : List UInt8 := [182, 0, 173, 153, 0, 10, 25, 7, 58, 10, 167, 0, 93, 25, 7, 180, 0, 177, 89, 58, 11, 198, 0, 82]
abbrev dktJ4_removeNode_3 : List UInt8 := dkwJ4_removeNode_3 ++ dktJ4_removeNode_4
def dkwJ4_removeNode_2 : List UInt8 := [160, 0, 35, 25, 7, 180, 0, 170, 89, 58, 12, 44, 165, 0, 16, 44, 198, 0, 19, 44, 25, 12]
abbrev dktJ4_removeNode_2 : List UInt8 := dkwJ4_removeNode_2 ++ dktJ4_removeNode_3
def dkwJ4_removeNode_1 : List UInt8 := [100, 27, 126, 89, 54, 9, 50, 89, 58, 7, 198, 0, 255, 1, 58, 10, 25, 7, 180, 0, 168, 27]
abbrev dktJ4_removeNode_1 : List UInt8 := dkwJ4_removeNode_1 ++ dktJ4_removeNode_2
def dkwJ4_removeNode_0 : List UInt8 := [42, 180, 0, 105, 89, 58, 6, 198, 1, 26, 25, 6, 190, 89, 54, 8, 158, 1, 17, 25, 6, 21, 8, 4]
abbrev dktJ4_removeNode_0 : List UInt8 := dkwJ4_removeNode_0 ++ dktJ4_removeNode_1
theorem dksJ4_removeNode_0 : cJ4_removeNode.data.toList.drop 0 = dktJ4_removeNode_0 := by decide +kernel
theorem dksJ4_removeNode_1 : cJ4_removeNode.data.toList.drop 24 = dktJ4_removeNode_1 := dk_seg dksJ4_removeNode_0 24 rfl rfl
theorem dksJ4_removeNode_2 : cJ4_removeNode.data.toList.drop 46 = dktJ4_removeNode_2 := dk_seg dksJ4_removeNode_1 22 rfl rfl
theorem dksJ4_removeNode_3 : cJ4_removeNode.data.toList.drop 68 = dktJ4_removeNode_3 := dk_seg dksJ4_removeNode_2 22 rfl rfl
theorem dksJ4_removeNode_4 : cJ4_removeNode.data.toList.drop 92 = dktJ4_removeNode_4 := dk_seg dksJ4_removeNode_3 24 rfl rfl
theorem dksJ4_removeNode_5 : cJ4_removeNode.data.toList.drop 115 = dktJ4_removeNode_5 := dk_seg dksJ4_removeNode_4 23 rfl rfl
theorem dksJ4_removeNode_6 : cJ4_removeNode.data.toList.drop 137 = dktJ4_removeNode_6 := dk_seg dksJ4_removeNode_5 22 rfl rfl
theorem dksJ4_removeNode_7 : cJ4_removeNode.data.toList.drop 160 = dktJ4_removeNode_7 := dk_seg dksJ4_removeNode_6 23 rfl rfl
theorem dksJ4_removeNode_8 : cJ4_removeNode.data.toList.drop 183 = dktJ4_removeNode_8 := dk_seg dksJ4_removeNode_7 23 rfl rfl
theorem dksJ4_removeNode_9 : cJ4_removeNode.data.toList.drop 206 = dktJ4_removeNode_9 := dk_seg dksJ4_removeNode_8 23 rfl rfl
theorem dksJ4_removeNode_10 : cJ4_removeNode.data.toList.drop 230 = dktJ4_removeNode_10 := dk_seg dksJ4_removeNode_9 24 rfl rfl
theorem dksJ4_removeNode_11 : cJ4_removeNode.data.toList.drop 254 = dktJ4_removeNode_11 := dk_seg dksJ4_removeNode_10 24 rfl rfl
theorem dksJ4_removeNode_12 : cJ4_removeNode.data.toList.drop 277 = dktJ4_removeNode_12 := dk_seg dksJ4_removeNode_11 23 rfl rfl
theorem dJ4_removeNode_0 : decode cJ4_removeNode 0 = .ok (.aload_n 0, 1) := dk_42 (dk_at dksJ4_removeNode_0 0 rfl rfl)
theorem dJ4_removeNode_1 : decode cJ4_removeNode 1 = .ok (.getfield 105, 3) := dk_180 0 105 (dk_at dksJ4_removeNode_0 1 rfl rfl)
theorem dJ4_removeNode_4 : decode cJ4_removeNode 4 = .ok (.dup, 1) := dk_89 (dk_at dksJ4_removeNode_0 4 rfl rfl)
theorem dJ4_removeNode_5 : decode cJ4_removeNode 5 = .ok (.astore 6, 2) := dk_58 6 (dk_at dksJ4_removeNode_0 5 rfl rfl)
theorem dJ4_removeNode_7 : decode cJ4_removeNode 7 = .ok (.ifnull 282, 3) := dk_198 1 26 (dk_at dksJ4_removeNode_0 7 rfl rfl)
theorem dJ4_removeNode_10 : decode cJ4_removeNode 10 = .ok (.aload 6, 2) := dk_25 6 (dk_at dksJ4_removeNode_0 10 rfl rfl)
theorem dJ4_removeNode_12 : decode cJ4_removeNode 12 = .ok (.arraylength, 1) := dk_190 (dk_at dksJ4_removeNode_0 12 rfl rfl)
theorem dJ4_removeNode_13 : decode cJ4_removeNode 13 = .ok (.dup, 1) := dk_89 (dk_at dksJ4_removeNode_0 13 rfl rfl)
theorem dJ4_removeNode_14 : decode cJ4_removeNode 14 = .ok (.istore 8, 2) := dk_54 8 (dk_at dksJ4_removeNode_0 14 rfl rfl)
theorem dJ4_removeNode_16 : decode cJ4_removeNode 16 = .ok (.ifCond .le 273, 3) := dk_158 1 17 (dk_at dksJ4_removeNode_0 16 rfl rfl)
theorem dJ4_removeNode_19 : decode cJ4_removeNode 19 = .ok (.aload 6, 2) := dk_25 6 (dk_at dksJ4_removeNode_0 19 rfl rfl)
theorem dJ4_removeNode_21 : decode cJ4_removeNode 21 = .ok (.iload 8, 2) := dk_21 8 (dk_at dksJ4_removeNode_0 21 rfl rfl)
theorem dJ4_removeNode_23 : decode cJ4_removeNode 23 = .ok (.iconst 1, 1) := dk_4 (dk_at dksJ4_removeNode_0 23 rfl rfl)
theorem dJ4_removeNode_24 : decode cJ4_removeNode 24 = .ok (.isub, 1) := dk_100 (dk_at dksJ4_removeNode_1 0 rfl rfl)
theorem dJ4_removeNode_25 : decode cJ4_removeNode 25 = .ok (.iload_n 1, 1) := dk_27 (dk_at dksJ4_removeNode_1 1 rfl rfl)
theorem dJ4_removeNode_26 : decode cJ4_removeNode 26 = .ok (.iand, 1) := dk_126 (dk_at dksJ4_removeNode_1 2 rfl rfl)
theorem dJ4_removeNode_27 : decode cJ4_removeNode 27 = .ok (.dup, 1) := dk_89 (dk_at dksJ4_removeNode_1 3 rfl rfl)
theorem dJ4_removeNode_28 : decode cJ4_removeNode 28 = .ok (.istore 9, 2) := dk_54 9 (dk_at dksJ4_removeNode_1 4 rfl rfl)
theorem dJ4_removeNode_30 : decode cJ4_removeNode 30 = .ok (.aaload, 1) := dk_50 (dk_at dksJ4_removeNode_1 6 rfl rfl)
theorem dJ4_removeNode_31 : decode cJ4_removeNode 31 = .ok (.dup, 1) := dk_89 (dk_at dksJ4_removeNode_1 7 rfl rfl)
theorem dJ4_removeNode_32 : decode cJ4_removeNode 32 = .ok (.astore 7, 2) := dk_58 7 (dk_at dksJ4_removeNode_1 8 rfl rfl)
theorem dJ4_removeNode_34 : decode cJ4_removeNode 34 = .ok (.ifnull 255, 3) := dk_198 0 255 (dk_at dksJ4_removeNode_1 10 rfl rfl)
theorem dJ4_removeNode_37 : decode cJ4_removeNode 37 = .ok (.aconst_null, 1) := dk_1 (dk_at dksJ4_removeNode_1 13 rfl rfl)
theorem dJ4_removeNode_38 : decode cJ4_removeNode 38 = .ok (.astore 10, 2) := dk_58 10 (dk_at dksJ4_removeNode_1 14 rfl rfl)
theorem dJ4_removeNode_40 : decode cJ4_removeNode 40 = .ok (.aload 7, 2) := dk_25 7 (dk_at dksJ4_removeNode_1 16 rfl rfl)
theorem dJ4_removeNode_42 : decode cJ4_removeNode 42 = .ok (.getfield 168, 3) := dk_180 0 168 (dk_at dksJ4_removeNode_1 18 rfl rfl)
theorem dJ4_removeNode_45 : decode cJ4_removeNode 45 = .ok (.iload_n 1, 1) := dk_27 (dk_at dksJ4_removeNode_1 21 rfl rfl)
theorem dJ4_removeNode_46 : decode cJ4_removeNode 46 = .ok (.if_icmp .ne 35, 3) := dk_160 0 35 (dk_at dksJ4_removeNode_2 0 rfl rfl)
theorem dJ4_removeNode_49 : decode cJ4_removeNode 49 = .ok (.aload 7, 2) := dk_25 7 (dk_at dksJ4_removeNode_2 3 rfl rfl)
theorem dJ4_removeNode_51 : decode cJ4_removeNode 51 = .ok (.getfield 170, 3) := dk_180 0 170 (dk_at dksJ4_removeNode_2 5 rfl rfl)
theorem dJ4_removeNode_54 : decode cJ4_removeNode 54 = .ok (.dup, 1) := dk_89 (dk_at dksJ4_removeNode_2 8 rfl rfl)
theorem dJ4_removeNode_55 : decode cJ4_removeNode 55 = .ok (.astore 12, 2) := dk_58 12 (dk_at dksJ4_removeNode_2 9 rfl rfl)
theorem dJ4_removeNode_57 : decode cJ4_removeNode 57 = .ok (.aload_n 2, 1) := dk_44 (dk_at dksJ4_removeNode_2 11 rfl rfl)
theorem dJ4_removeNode_58 : decode cJ4_removeNode 58 = .ok (.if_acmp .eq 16, 3) := dk_165 0 16 (dk_at dksJ4_removeNode_2 12 rfl rfl)
theorem dJ4_removeNode_61 : decode cJ4_removeNode 61 = .ok (.aload_n 2, 1) := dk_44 (dk_at dksJ4_removeNode_2 15 rfl rfl)
theorem dJ4_removeNode_62 : decode cJ4_removeNode 62 = .ok (.ifnull 19, 3) := dk_198 0 19 (dk_at dksJ4_removeNode_2 16 rfl rfl)
theorem dJ4_removeNode_65 : decode cJ4_removeNode 65 = .ok (.aload_n 2, 1) := dk_44 (dk_at dksJ4_removeNode_2 19 rfl rfl)
theorem dJ4_removeNode_66 : decode cJ4_removeNode 66 = .ok (.aload 12, 2) := dk_25 12 (dk_at dksJ4_removeNode_2 20 rfl rfl)
theorem dJ4_removeNode_68 : decode cJ4_removeNode 68 = .ok (.invokevirtual 173, 3) := dk_182 0 173 (dk_at dksJ4_removeNode_3 0 rfl rfl)
theorem dJ4_removeNode_71 : decode cJ4_removeNode 71 = .ok (.ifCond .eq 10, 3) := dk_153 0 10 (dk_at dksJ4_removeNode_3 3 rfl rfl)
theorem dJ4_removeNode_74 : decode cJ4_removeNode 74 = .ok (.aload 7, 2) := dk_25 7 (dk_at dksJ4_removeNode_3 6 rfl rfl)
theorem dJ4_removeNode_76 : decode cJ4_removeNode 76 = .ok (.astore 10, 2) := dk_58 10 (dk_at dksJ4_removeNode_3 8 rfl rfl)
theorem dJ4_removeNode_78 : decode cJ4_removeNode 78 = .ok (.goto 93, 3) := dk_167 0 93 (dk_at dksJ4_removeNode_3 10 rfl rfl)
theorem dJ4_removeNode_81 : decode cJ4_removeNode 81 = .ok (.aload 7, 2) := dk_25 7 (dk_at dksJ4_removeNode_3 13 rfl rfl)
theorem dJ4_removeNode_83 : decode cJ4_removeNode 83 = .ok (.getfield 177, 3) := dk_180 0 177 (dk_at dksJ4_removeNode_3 15 rfl rfl)
theorem dJ4_removeNode_86 : decode cJ4_removeNode 86 = .ok (.dup, 1) := dk_89 (dk_at dksJ4_removeNode_3 18 rfl rfl)
theorem dJ4_removeNode_87 : decode cJ4_removeNode 87 = .ok (.astore 11, 2) := dk_58 11 (dk_at dksJ4_removeNode_3 19 rfl rfl)
theorem dJ4_removeNode_89 : decode cJ4_removeNode 89 = .ok (.ifnull 82, 3) := dk_198 0 82 (dk_at dksJ4_removeNode_3 21 rfl rfl)
theorem dJ4_removeNode_92 : decode cJ4_removeNode 92 = .ok (.aload 7, 2) := dk_25 7 (dk_at dksJ4_removeNode_4 0 rfl rfl)
theorem dJ4_removeNode_94 : decode cJ4_removeNode 94 = .ok (.instanceof 180, 3) := dk_193 0 180 (dk_at dksJ4_removeNode_4 2 rfl rfl)
theorem dJ4_removeNode_97 : decode cJ4_removeNode 97 = .ok (.ifCond .eq 18, 3) := dk_153 0 18 (dk_at dksJ4_removeNode_4 5 rfl rfl)
theorem dJ4_removeNode_100 : decode cJ4_removeNode 100 = .ok (.aload 7, 2) := dk_25 7 (dk_at dksJ4_removeNode_4 8 rfl rfl)
theorem dJ4_removeNode_102 : decode cJ4_removeNode 102 = .ok (.checkcast 180, 3) := dk_192 0 180 (dk_at dksJ4_removeNode_4 10 rfl rfl)
theorem dJ4_removeNode_105 : decode cJ4_removeNode 105 = .ok (.iload_n 1, 1) := dk_27 (dk_at dksJ4_removeNode_4 13 rfl rfl)
theorem dJ4_removeNode_106 : decode cJ4_removeNode 106 = .ok (.aload_n 2, 1) := dk_44 (dk_at dksJ4_removeNode_4 14 rfl rfl)
theorem dJ4_removeNode_107 : decode cJ4_removeNode 107 = .ok (.invokevirtual 182, 3) := dk_182 0 182 (dk_at dksJ4_removeNode_4 15 rfl rfl)
theorem dJ4_removeNode_110 : decode cJ4_removeNode 110 = .ok (.astore 10, 2) := dk_58 10 (dk_at dksJ4_removeNode_4 18 rfl rfl)
theorem dJ4_removeNode_112 : decode cJ4_removeNode 112 = .ok (.goto 59, 3) := dk_167 0 59 (dk_at dksJ4_removeNode_4 20 rfl rfl)
theorem dJ4_removeNode_115 : decode cJ4_removeNode 115 = .ok (.aload 11, 2) := dk_25 11 (dk_at dksJ4_removeNode_5 0 rfl rfl)
theorem dJ4_removeNode_117 : decode cJ4_removeNode 117 = .ok (.getfield 168, 3) := dk_180 0 168 (dk_at dksJ4_removeNode_5 2 rfl rfl)
theorem dJ4_removeNode_120 : decode cJ4_removeNode 120 = .ok (.iload_n 1, 1) := dk_27 (dk_at dksJ4_removeNode_5 5 rfl rfl)
theorem dJ4_removeNode_121 : decode cJ4_removeNode 121 = .ok (.if_icmp .ne 35, 3) := dk_160 0 35 (dk_at dksJ4_removeNode_5 6 rfl rfl)
theorem dJ4_removeNode_124 : decode cJ4_removeNode 124 = .ok (.aload 11, 2) := dk_25 11 (dk_at dksJ4_removeNode_5 9 rfl rfl)
theorem dJ4_removeNode_126 : decode cJ4_removeNode 126 = .ok (.getfield 170, 3) := dk_180 0 170 (dk_at dksJ4_removeNode_5 11 rfl rfl)
theorem dJ4_removeNode_129 : decode cJ4_removeNode 129 = .ok (.dup, 1) := dk_89 (dk_at dksJ4_removeNode_5 14 rfl rfl)
theorem dJ4_removeNode_130 : decode cJ4_removeNode 130 = .ok (.astore 12, 2) := dk_58 12 (dk_at dksJ4_removeNode_5 15 rfl rfl)
theorem dJ4_removeNode_132 : decode cJ4_removeNode 132 = .ok (.aload_n 2, 1) := dk_44 (dk_at dksJ4_removeNode_5 17 rfl rfl)
theorem dJ4_removeNode_133 : decode cJ4_removeNode 133 = .ok (.if_acmp .eq 16, 3) := dk_165 0 16 (dk_at dksJ4_removeNode_5 18 rfl rfl)
theorem dJ4_removeNode_136 : decode cJ4_removeNode 136 = .ok (.aload_n 2, 1) := dk_44 (dk_at dksJ4_removeNode_5 21 rfl rfl)
theorem dJ4_removeNode_137 : decode cJ4_removeNode 137 = .ok (.ifnull 19, 3) := dk_198 0 19 (dk_at dksJ4_removeNode_6 0 rfl rfl)
theorem dJ4_removeNode_140 : decode cJ4_removeNode 140 = .ok (.aload_n 2, 1) := dk_44 (dk_at dksJ4_removeNode_6 3 rfl rfl)
theorem dJ4_removeNode_141 : decode cJ4_removeNode 141 = .ok (.aload 12, 2) := dk_25 12 (dk_at dksJ4_removeNode_6 4 rfl rfl)
theorem dJ4_removeNode_143 : decode cJ4_removeNode 143 = .ok (.invokevirtual 173, 3) := dk_182 0 173 (dk_at dksJ4_removeNode_6 6 rfl rfl)
theorem dJ4_removeNode_146 : decode cJ4_removeNode 146 = .ok (.ifCond .eq 10, 3) := dk_153 0 10 (dk_at dksJ4_removeNode_6 9 rfl rfl)
theorem dJ4_removeNode_149 : decode cJ4_removeNode 149 = .ok (.aload 11, 2) := dk_25 11 (dk_at dksJ4_removeNode_6 12 rfl rfl)
theorem dJ4_removeNode_151 : decode cJ4_removeNode 151 = .ok (.astore 10, 2) := dk_58 10 (dk_at dksJ4_removeNode_6 14 rfl rfl)
theorem dJ4_removeNode_153 : decode cJ4_removeNode 153 = .ok (.goto 18, 3) := dk_167 0 18 (dk_at dksJ4_removeNode_6 16 rfl rfl)
theorem dJ4_removeNode_156 : decode cJ4_removeNode 156 = .ok (.aload 11, 2) := dk_25 11 (dk_at dksJ4_removeNode_6 19 rfl rfl)
theorem dJ4_removeNode_158 : decode cJ4_removeNode 158 = .ok (.astore 7, 2) := dk_58 7 (dk_at dksJ4_removeNode_6 21 rfl rfl)
theorem dJ4_removeNode_160 : decode cJ4_removeNode 160 = .ok (.aload 11, 2) := dk_25 11 (dk_at dksJ4_removeNode_7 0 rfl rfl)
theorem dJ4_removeNode_162 : decode cJ4_removeNode 162 = .ok (.getfield 177, 3) := dk_180 0 177 (dk_at dksJ4_removeNode_7 2 rfl rfl)
theorem dJ4_removeNode_165 : decode cJ4_removeNode 165 = .ok (.dup, 1) := dk_89 (dk_at dksJ4_removeNode_7 5 rfl rfl)
theorem dJ4_removeNode_166 : decode cJ4_removeNode 166 = .ok (.astore 11, 2) := dk_58 11 (dk_at dksJ4_removeNode_7 6 rfl rfl)
theorem dJ4_removeNode_168 : decode cJ4_removeNode 168 = .ok (.ifnonnull (-53), 3) := dk_199 255 203 (dk_at dksJ4_removeNode_7 8 rfl rfl)
theorem dJ4_removeNode_171 : decode cJ4_removeNode 171 = .ok (.aload 10, 2) := dk_25 10 (dk_at dksJ4_removeNode_7 11 rfl rfl)
theorem dJ4_removeNode_173 : decode cJ4_removeNode 173 = .ok (.ifnull 116, 3) := dk_198 0 116 (dk_at dksJ4_removeNode_7 13 rfl rfl)
theorem dJ4_removeNode_176 : decode cJ4_removeNode 176 = .ok (.iload 4, 2) := dk_21 4 (dk_at dksJ4_removeNode_7 16 rfl rfl)
theorem dJ4_removeNode_178 : decode cJ4_removeNode 178 = .ok (.ifCond .eq 28, 3) := dk_153 0 28 (dk_at dksJ4_removeNode_7 18 rfl rfl)
theorem dJ4_removeNode_181 : decode cJ4_removeNode 181 = .ok (.aload 10, 2) := dk_25 10 (dk_at dksJ4_removeNode_7 21 rfl rfl)
theorem dJ4_removeNode_183 : decode cJ4_removeNode 183 = .ok (.getfield 162, 3) := dk_180 0 162 (dk_at dksJ4_removeNode_8 0 rfl rfl)
theorem dJ4_removeNode_186 : decode cJ4_removeNode 186 = .ok (.dup, 1) := dk_89 (dk_at dksJ4_removeNode_8 3 rfl rfl)
theorem dJ4_removeNode_187 : decode cJ4_removeNode 187 = .ok (.astore 13, 2) := dk_58 13 (dk_at dksJ4_removeNode_8 4 rfl rfl)
theorem dJ4_removeNode_189 : decode cJ4_removeNode 189 = .ok (.aload_n 3, 1) := dk_45 (dk_at dksJ4_removeNode_8 6 rfl rfl)
theorem dJ4_removeNode_190 : decode cJ4_removeNode 190 = .ok (.if_acmp .eq 16, 3) := dk_165 0 16 (dk_at dksJ4_removeNode_8 7 rfl rfl)
theorem dJ4_removeNode_193 : decode cJ4_removeNode 193 = .ok (.aload_n 3, 1) := dk_45 (dk_at dksJ4_removeNode_8 10 rfl rfl)
theorem dJ4_removeNode_194 : decode cJ4_removeNode 194 = .ok (.ifnull 95, 3) := dk_198 0 95 (dk_at dksJ4_removeNode_8 11 rfl rfl)
theorem dJ4_removeNode_197 : decode cJ4_removeNode 197 = .ok (.aload_n 3, 1) := dk_45 (dk_at dksJ4_removeNode_8 14 rfl rfl)
theorem dJ4_removeNode_198 : decode cJ4_removeNode 198 = .ok (.aload 13, 2) := dk_25 13 (dk_at dksJ4_removeNode_8 15 rfl rfl)
theorem dJ4_removeNode_200 : decode cJ4_removeNode 200 = .ok (.invokevirtual 173, 3) := dk_182 0 173 (dk_at dksJ4_removeNode_8 17 rfl rfl)
theorem dJ4_removeNode_203 : decode cJ4_removeNode 203 = .ok (.ifCond .eq 86, 3) := dk_153 0 86 (dk_at dksJ4_removeNode_8 20 rfl rfl)
theorem dJ4_removeNode_206 : decode cJ4_removeNode 206 = .ok (.aload 10, 2) := dk_25 10 (dk_at dksJ4_removeNode_9 0 rfl rfl)
theorem dJ4_removeNode_208 : decode cJ4_removeNode 208 = .ok (.instanceof 180, 3) := dk_193 0 180 (dk_at dksJ4_removeNode_9 2 rfl rfl)
theorem dJ4_removeNode_211 : decode cJ4_removeNode 211 = .ok (.ifCond .eq 19, 3) := dk_153 0 19 (dk_at dksJ4_removeNode_9 5 rfl rfl)
theorem dJ4_removeNode_214 : decode cJ4_removeNode 214 = .ok (.aload 10, 2) := dk_25 10 (dk_at dksJ4_removeNode_9 8 rfl rfl)
theorem dJ4_removeNode_216 : decode cJ4_removeNode 216 = .ok (.checkcast 180, 3) := dk_192 0 180 (dk_at dksJ4_removeNode_9 10 rfl rfl)
theorem dJ4_removeNode_219 : decode cJ4_removeNode 219 = .ok (.aload_n 0, 1) := dk_42 (dk_at dksJ4_removeNode_9 13 rfl rfl)
theorem dJ4_removeNode_220 : decode cJ4_removeNode 220 = .ok (.aload 6, 2) := dk_25 6 (dk_at dksJ4_removeNode_9 14 rfl rfl)
theorem dJ4_removeNode_222 : decode cJ4_removeNode 222 = .ok (.iload 5, 2) := dk_21 5 (dk_at dksJ4_removeNode_9 16 rfl rfl)
theorem dJ4_removeNode_224 : decode cJ4_removeNode 224 = .ok (.invokevirtual 232, 3) := dk_182 0 232 (dk_at dksJ4_removeNode_9 18 rfl rfl)
theorem dJ4_removeNode_227 : decode cJ4_removeNode 227 = .ok (.goto 33, 3) := dk_167 0 33 (dk_at dksJ4_removeNode_9 21 rfl rfl)
theorem dJ4_removeNode_230 : decode cJ4_removeNode 230 = .ok (.aload 10, 2) := dk_25 10 (dk_at dksJ4_removeNode_10 0 rfl rfl)
theorem dJ4_removeNode_232 : decode cJ4_removeNode 232 = .ok (.aload 7, 2) := dk_25 7 (dk_at dksJ4_removeNode_10 2 rfl rfl)
theorem dJ4_removeNode_234 : decode cJ4_removeNode 234 = .ok (.if_acmp .ne 16, 3) := dk_166 0 16 (dk_at dksJ4_removeNode_10 4 rfl rfl)
theorem dJ4_removeNode_237 : decode cJ4_removeNode 237 = .ok (.aload 6, 2) := dk_25 6 (dk_at dksJ4_removeNode_10 7 rfl rfl)
theorem dJ4_removeNode_239 : decode cJ4_removeNode 239 = .ok (.iload 9, 2) := dk_21 9 (dk_at dksJ4_removeNode_10 9 rfl rfl)
theorem dJ4_removeNode_241 : decode cJ4_removeNode 241 = .ok (.aload 10, 2) := dk_25 10 (dk_at dksJ4_removeNode_10 11 rfl rfl)
theorem dJ4_removeNode_243 : decode cJ4_removeNode 243 = .ok (.getfield 177, 3) := dk_180 0 177 (dk_at dksJ4_removeNode_10 13 rfl rfl)
theorem dJ4_removeNode_246 : decode cJ4_removeNode 246 = .ok (.aastore, 1) := dk_83 (dk_at dksJ4_removeNode_10 16 rfl rfl)
theorem dJ4_removeNode_247 : decode cJ4_removeNode 247 = .ok (.goto 13, 3) := dk_167 0 13 (dk_at dksJ4_removeNode_10 17 rfl rfl)
theorem dJ4_removeNode_250 : decode cJ4_removeNode 250 = .ok (.aload 7, 2) := dk_25 7 (dk_at dksJ4_removeNode_10 20 rfl rfl)
theorem dJ4_removeNode_252 : decode cJ4_removeNode 252 = .ok (.aload 10, 2) := dk_25 10 (dk_at dksJ4_removeNode_10 22 rfl rfl)
theorem dJ4_removeNode_254 : decode cJ4_removeNode 254 = .ok (.getfield 177, 3) := dk_180 0 177 (dk_at dksJ4_removeNode_11 0 rfl rfl)
theorem dJ4_removeNode_257 : decode cJ4_removeNode 257 = .ok (.putfield 177, 3) := dk_181 0 177 (dk_at dksJ4_removeNode_11 3 rfl rfl)
theorem dJ4_removeNode_260 : decode cJ4_removeNode 260 = .ok (.aload_n 0, 1) := dk_42 (dk_at dksJ4_removeNode_11 6 rfl rfl)
theorem dJ4_removeNode_261 : decode cJ4_removeNode 261 = .ok (.dup, 1) := dk_89 (dk_at dksJ4_removeNode_11 7 rfl rfl)
theorem dJ4_removeNode_262 : decode cJ4_removeNode 262 = .ok (.getfield 202, 3) := dk_180 0 202 (dk_at dksJ4_removeNode_11 8 rfl rfl)
theorem dJ4_removeNode_265 : decode cJ4_removeNode 265 = .ok (.iconst 1, 1) := dk_4 (dk_at dksJ4_removeNode_11 11 rfl rfl)
theorem dJ4_removeNode_266 : decode cJ4_removeNode 266 = .ok (.iadd, 1) := dk_96 (dk_at dksJ4_removeNode_11 12 rfl rfl)
theorem dJ4_removeNode_267 : decode cJ4_removeNode 267 = .ok (.putfield 202, 3) := dk_181 0 202 (dk_at dksJ4_removeNode_11 13 rfl rfl)
theorem dJ4_removeNode_270 : decode cJ4_removeNode 270 = .ok (.aload_n 0, 1) := dk_42 (dk_at dksJ4_removeNode_11 16 rfl rfl)
theorem dJ4_removeNode_271 : decode cJ4_removeNode 271 = .ok (.dup, 1) := dk_89 (dk_at dksJ4_removeNode_11 17 rfl rfl)
theorem dJ4_removeNode_272 : decode cJ4_removeNode 272 = .ok (.getfield 156, 3) := dk_180 0 156 (dk_at dksJ4_removeNode_11 18 rfl rfl)
theorem dJ4_removeNode_275 : decode cJ4_removeNode 275 = .ok (.iconst 1, 1) := dk_4 (dk_at dksJ4_removeNode_11 21 rfl rfl)
theorem dJ4_removeNode_276 : decode cJ4_removeNode 276 = .ok (.isub, 1) := dk_100 (dk_at dksJ4_removeNode_11 22 rfl rfl)
theorem dJ4_removeNode_277 : decode cJ4_removeNode 277 = .ok (.putfield 156, 3) := dk_181 0 156 (dk_at dksJ4_removeNode_12 0 rfl rfl)
theorem dJ4_removeNode_280 : decode cJ4_removeNode 280 = .ok (.aload_n 0, 1) := dk_42 (dk_at dksJ4_removeNode_12 3 rfl rfl)
theorem dJ4_removeNode_281 : decode cJ4_removeNode 281 = .ok (.aload 10, 2) := dk_25 10 (dk_at dksJ4_removeNode_12 4 rfl rfl)
theorem dJ4_removeNode_283 : decode cJ4_removeNode 283 = .ok (.invokevirtual 236, 3) := dk_182 0 236 (dk_at dksJ4_removeNode_12 6 rfl rfl)
theorem dJ4_removeNode_286 : decode cJ4_removeNode 286 = .ok (.aload 10, 2) := dk_25 10 (dk_at dksJ4_removeNode_12 9 rfl rfl)
theorem dJ4_removeNode_288 : decode cJ4_removeNode 288 = .ok (.areturn, 1) := dk_176 (dk_at dksJ4_removeNode_12 11 rfl rfl)
theorem dJ4_removeNode_289 : decode cJ4_removeNode 289 = .ok (.aconst_null, 1) := dk_1 (dk_at dksJ4_removeNode_12 12 rfl rfl)
theorem dJ4_removeNode_290 : decode cJ4_removeNode 290 = .ok (.areturn, 1) := dk_176 (dk_at dksJ4_removeNode_12 13 rfl rfl)
abbrev cJ4_clear : ByteArray := prog_49_method_22_code
def yJ4_clear : MethodName := ⟨RJ4, "clear", "()V"⟩
def dkwJ4_clear_2 : List UInt8 := [167, 255, 243, 177]
abbrev dktJ4_clear_2 : List UInt8 := dkwJ4_clear_2 ++ []
def dkwJ4_clear_1 : List UInt8 := [158, 0, 26, 42, 3, 181, 0, 156, 3, 61, 28, 43, 190, 162, 0, 13, 43, 28, 1, 83, 132, 2, 1]
abbrev dktJ4_clear_1 : List UInt8 := dkwJ4_clear_1 ++ dktJ4_clear_2
def dkwJ4_clear_0 : List UInt8 := [42, 89, 180, 0, 202, 4, 96, 181, 0, 202, 42, 180, 0, 105, 89, 76, 198, 0, 33, 42, 180, 0, 156]
abbrev dktJ4_clear_0 : List UInt8 := dkwJ4_clear_0 ++ dktJ4_clear_1
theorem dksJ4_clear_0 : cJ4_clear.data.toList.drop 0 = dktJ4_clear_0 := by decide +kernel
theorem dksJ4_clear_1 : cJ4_clear.data.toList.drop 23 = dktJ4_clear_1 := dk_seg dksJ4_clear_0 23 rfl rfl
theorem dksJ4_clear_2 : cJ4_clear.data.toList.drop 46 = dktJ4_clear_2 := dk_seg dksJ4_clear_1 23 rfl rfl
theorem dJ4_clear_0 : decode cJ4_clear 0 = .ok (.aload_n 0, 1) := dk_42 (dk_at dksJ4_clear_0 0 rfl rfl)
theorem dJ4_clear_1 : decode cJ4_clear 1 = .ok (.dup, 1) := dk_89 (dk_at dksJ4_clear_0 1 rfl rfl)
theorem dJ4_clear_2 : decode cJ4_clear 2 = .ok (.getfield 202, 3) := dk_180 0 202 (dk_at dksJ4_clear_0 2 rfl rfl)
theorem dJ4_clear_5 : decode cJ4_clear 5 = .ok (.iconst 1, 1) := dk_4 (dk_at dksJ4_clear_0 5 rfl rfl)
theorem dJ4_clear_6 : decode cJ4_clear 6 = .ok (.iadd, 1) := dk_96 (dk_at dksJ4_clear_0 6 rfl rfl)
theorem dJ4_clear_7 : decode cJ4_clear 7 = .ok (.putfield 202, 3) := dk_181 0 202 (dk_at dksJ4_clear_0 7 rfl rfl)
theorem dJ4_clear_10 : decode cJ4_clear 10 = .ok (.aload_n 0, 1) := dk_42 (dk_at dksJ4_clear_0 10 rfl rfl)
theorem dJ4_clear_11 : decode cJ4_clear 11 = .ok (.getfield 105, 3) := dk_180 0 105 (dk_at dksJ4_clear_0 11 rfl rfl)
theorem dJ4_clear_14 : decode cJ4_clear 14 = .ok (.dup, 1) := dk_89 (dk_at dksJ4_clear_0 14 rfl rfl)
theorem dJ4_clear_15 : decode cJ4_clear 15 = .ok (.astore_n 1, 1) := dk_76 (dk_at dksJ4_clear_0 15 rfl rfl)
theorem dJ4_clear_16 : decode cJ4_clear 16 = .ok (.ifnull 33, 3) := dk_198 0 33 (dk_at dksJ4_clear_0 16 rfl rfl)
theorem dJ4_clear_19 : decode cJ4_clear 19 = .ok (.aload_n 0, 1) := dk_42 (dk_at dksJ4_clear_0 19 rfl rfl)
theorem dJ4_clear_20 : decode cJ4_clear 20 = .ok (.getfield 156, 3) := dk_180 0 156 (dk_at dksJ4_clear_0 20 rfl rfl)
theorem dJ4_clear_23 : decode cJ4_clear 23 = .ok (.ifCond .le 26, 3) := dk_158 0 26 (dk_at dksJ4_clear_1 0 rfl rfl)
theorem dJ4_clear_26 : decode cJ4_clear 26 = .ok (.aload_n 0, 1) := dk_42 (dk_at dksJ4_clear_1 3 rfl rfl)
theorem dJ4_clear_27 : decode cJ4_clear 27 = .ok (.iconst 0, 1) := dk_3 (dk_at dksJ4_clear_1 4 rfl rfl)
theorem dJ4_clear_28 : decode cJ4_clear 28 = .ok (.putfield 156, 3) := dk_181 0 156 (dk_at dksJ4_clear_1 5 rfl rfl)
theorem dJ4_clear_31 : decode cJ4_clear 31 = .ok (.iconst 0, 1) := dk_3 (dk_at dksJ4_clear_1 8 rfl rfl)
theorem dJ4_clear_32 : decode cJ4_clear 32 = .ok (.istore_n 2, 1) := dk_61 (dk_at dksJ4_clear_1 9 rfl rfl)
theorem dJ4_clear_33 : decode cJ4_clear 33 = .ok (.iload_n 2, 1) := dk_28 (dk_at dksJ4_clear_1 10 rfl rfl)
theorem dJ4_clear_34 : decode cJ4_clear 34 = .ok (.aload_n 1, 1) := dk_43 (dk_at dksJ4_clear_1 11 rfl rfl)
theorem dJ4_clear_35 : decode cJ4_clear 35 = .ok (.arraylength, 1) := dk_190 (dk_at dksJ4_clear_1 12 rfl rfl)
theorem dJ4_clear_36 : decode cJ4_clear 36 = .ok (.if_icmp .ge 13, 3) := dk_162 0 13 (dk_at dksJ4_clear_1 13 rfl rfl)
theorem dJ4_clear_39 : decode cJ4_clear 39 = .ok (.aload_n 1, 1) := dk_43 (dk_at dksJ4_clear_1 16 rfl rfl)
theorem dJ4_clear_40 : decode cJ4_clear 40 = .ok (.iload_n 2, 1) := dk_28 (dk_at dksJ4_clear_1 17 rfl rfl)
theorem dJ4_clear_41 : decode cJ4_clear 41 = .ok (.aconst_null, 1) := dk_1 (dk_at dksJ4_clear_1 18 rfl rfl)
theorem dJ4_clear_42 : decode cJ4_clear 42 = .ok (.aastore, 1) := dk_83 (dk_at dksJ4_clear_1 19 rfl rfl)
theorem dJ4_clear_43 : decode cJ4_clear 43 = .ok (.iinc 2 1, 3) := dk_132 2 1 (dk_at dksJ4_clear_1 20 rfl rfl)
theorem dJ4_clear_46 : decode cJ4_clear 46 = .ok (.goto (-13), 3) := dk_167 255 243 (dk_at dksJ4_clear_2 0 rfl rfl)
theorem dJ4_clear_49 : decode cJ4_clear 49 = .ok (.return_, 1) := dk_177 (dk_at dksJ4_clear_2 3 rfl rfl)
theorem q105 : (Jvm.Cond.initialized "java/util/HashMap") ∈ lw_all := lw_g (lw_at lw_m1 8 rfl) rfl
theorem q222 : (Jvm.Cond.instanceMethod ({ cls := "java/util/HashMap", name := "<init>", desc := "()V" } : Jvm.MethodName)) ∈ lw_all := lw_g (lw_at lw_m1 125 rfl) rfl
theorem q223 : (Jvm.Cond.code ({ cls := "java/util/HashMap", name := "<init>", desc := "()V" } : Jvm.MethodName) prog_49_method_7_code (1 : Nat) (Option.none : Option Jvm.ClassFile.FieldType)) ∈ lw_all := lw_g (lw_at lw_m1 126 rfl) rfl
theorem q224 : (Jvm.Cond.methodLink "java/util/HashMap" (43 : Nat) ({ cls := "java/util/AbstractMap", name := "<init>", desc := "()V" } : Jvm.MethodName)) ∈ lw_all := lw_g (lw_at lw_m1 127 rfl) rfl
theorem q228 : (Jvm.Cond.constantFloat "java/util/HashMap" (92 : Nat) (1061158912 : UInt32)) ∈ lw_all := lw_g (lw_at lw_m1 131 rfl) rfl
theorem q236 : (Jvm.Cond.fieldLink "java/util/HashMap" (105 : Nat) "java/util/HashMap" "table" "[Ljava/util/HashMap$Node;") ∈ lw_all := lw_g (lw_at lw_m1 139 rfl) rfl
theorem q238 : (Jvm.Cond.fieldLink "java/util/HashMap" (156 : Nat) "java/util/HashMap" "size" "I") ∈ lw_all := lw_g (lw_at lw_m1 141 rfl) rfl
theorem q243 : (Jvm.Cond.fieldLink "java/util/HashMap" (202 : Nat) "java/util/HashMap" "modCount" "I") ∈ lw_all := lw_g (lw_at lw_m1 146 rfl) rfl
theorem q244 : (Jvm.Cond.fieldLink "java/util/HashMap" (88 : Nat) "java/util/HashMap" "threshold" "I") ∈ lw_all := lw_g (lw_at lw_m1 147 rfl) rfl
theorem q245 : (Jvm.Cond.fieldLink "java/util/HashMap" (81 : Nat) "java/util/HashMap" "loadFactor" "F") ∈ lw_all := lw_g (lw_at lw_m1 148 rfl) rfl
theorem q246 : (Jvm.Cond.fieldLink "java/util/HashMap" (239 : Nat) "java/util/HashMap" "keySet" "Ljava/util/Set;") ∈ lw_all := lw_g (lw_at lw_m1 149 rfl) rfl
theorem q247 : (Jvm.Cond.sameField "java/util/HashMap" "java/util/AbstractMap" "keySet" "Ljava/util/Set;") ∈ lw_all := lw_g (lw_at lw_m1 150 rfl) rfl
theorem q261 : (Jvm.Cond.soleField "java/util/HashMap" "table") ∈ lw_all := lw_g (lw_at lw_m1 164 rfl) rfl
theorem q263 : (Jvm.Cond.soleField "java/util/HashMap" "entrySet") ∈ lw_all := lw_g (lw_at lw_m1 166 rfl) rfl
theorem q265 : (Jvm.Cond.soleField "java/util/HashMap" "size") ∈ lw_all := lw_g (lw_at lw_m1 168 rfl) rfl
theorem q267 : (Jvm.Cond.soleField "java/util/HashMap" "modCount") ∈ lw_all := lw_g (lw_at lw_m1 170 rfl) rfl
theorem q269 : (Jvm.Cond.soleField "java/util/HashMap" "threshold") ∈ lw_all := lw_g (lw_at lw_m1 172 rfl) rfl
theorem q271 : (Jvm.Cond.soleField "java/util/HashMap" "loadFactor") ∈ lw_all := lw_g (lw_at lw_m1 174 rfl) rfl
theorem q620 : (Jvm.Cond.instanceMethod ({ cls := "java/util/HashMap", name := "<init>", desc := "(IF)V" } : Jvm.MethodName)) ∈ lw_all := lw_g (lw_at lw_m3 43 rfl) rfl
theorem q621 : (Jvm.Cond.code ({ cls := "java/util/HashMap", name := "<init>", desc := "(IF)V" } : Jvm.MethodName) prog_49_method_5_code (3 : Nat) (Option.none : Option Jvm.ClassFile.FieldType)) ∈ lw_all := lw_g (lw_at lw_m3 44 rfl) rfl
theorem q622 : (Jvm.Cond.constant "java/util/HashMap" (42 : Nat) (1073741824 : Int32)) ∈ lw_all := lw_g (lw_at lw_m3 45 rfl) rfl
theorem q623 : (Jvm.Cond.methodLink "java/util/HashMap" (70 : Nat) ({ cls := "java/lang/Float", name := "isNaN", desc := "(F)Z" } : Jvm.MethodName)) ∈ lw_all := lw_g (lw_at lw_m3 46 rfl) rfl
theorem q626 : (Jvm.Cond.methodLink "java/util/HashMap" (85 : Nat) ({ cls := "java/util/HashMap", name := "tableSizeFor", desc := "(I)I" } : Jvm.MethodName)) ∈ lw_all := lw_g (lw_at lw_m3 49 rfl) rfl
theorem q627 : (Jvm.Cond.static ({ cls := "java/util/HashMap", name := "tableSizeFor", desc := "(I)I" } : Jvm.MethodName)) ∈ lw_all := lw_g (lw_at lw_m3 50 rfl) rfl
theorem q628 : (Jvm.Cond.code ({ cls := "java/util/HashMap", name := "tableSizeFor", desc := "(I)I" } : Jvm.MethodName) prog_49_method_4_code (2 : Nat) (Option.some Jvm.ClassFile.FieldType.int)) ∈ lw_all := lw_g (lw_at lw_m3 51 rfl) rfl
theorem q629 : (Jvm.Cond.methodLink "java/util/HashMap" (34 : Nat) ({ cls := "java/lang/Integer", name := "numberOfLeadingZeros", desc := "(I)I" } : Jvm.MethodName)) ∈ lw_all := lw_g (lw_at lw_m3 52 rfl) rfl
theorem q796 : (Jvm.Cond.instanceMethod ({ cls := "java/util/HashMap", name := "keySet", desc := "()Ljava/util/Set;" } : Jvm.MethodName)) ∈ lw_all := lw_g (lw_at lw_m3 219 rfl) rfl
theorem q797 : (Jvm.Cond.sameMethod "java/util/HashMap" "java/util/HashMap" "keySet" "()Ljava/util/Set;") ∈ lw_all := lw_g (lw_at lw_m3 220 rfl) rfl
theorem q819 : (Jvm.Cond.declares ({ cls := "java/util/HashMap", name := "keySet", desc := "()Ljava/util/Set;" } : Jvm.MethodName)) ∈ lw_tbl := lw_at lw_m4 2 rfl
theorem q907 : (Jvm.Cond.instanceMethod ({ cls := "java/util/HashMap", name := "put", desc := "(Ljava/lang/Object;Ljava/lang/Object;)Ljava/lang/Object;" } : Jvm.MethodName)) ∈ lw_all := lw_g (lw_at lw_m4 90 rfl) rfl
theorem q908 : (Jvm.Cond.sameMethod "java/util/HashMap" "java/util/HashMap" "put" "(Ljava/lang/Object;Ljava/lang/Object;)Ljava/lang/Object;") ∈ lw_all := lw_g (lw_at lw_m4 91 rfl) rfl
theorem q910 : (Jvm.Cond.code ({ cls := "java/util/HashMap", name := "put", desc := "(Ljava/lang/Object;Ljava/lang/Object;)Ljava/lang/Object;" } : Jvm.MethodName) prog_49_method_15_code (3 : Nat) (Option.some (Jvm.ClassFile.FieldType.object "java/lang/Object"))) ∈ lw_all := lw_g (lw_at lw_m4 93 rfl) rfl
theorem q911 : (Jvm.Cond.methodLink "java/util/HashMap" (149 : Nat) ({ cls := "java/util/HashMap", name := "hash", desc := "(Ljava/lang/Object;)I" } : Jvm.MethodName)) ∈ lw_all := lw_g (lw_at lw_m4 94 rfl) rfl
theorem q912 : (Jvm.Cond.static ({ cls := "java/util/HashMap", name := "hash", desc := "(Ljava/lang/Object;)I" } : Jvm.MethodName)) ∈ lw_all := lw_g (lw_at lw_m4 95 rfl) rfl
theorem q913 : (Jvm.Cond.code ({ cls := "java/util/HashMap", name := "hash", desc := "(Ljava/lang/Object;)I" } : Jvm.MethodName) prog_49_method_1_code (2 : Nat) (Option.some Jvm.ClassFile.FieldType.int)) ∈ lw_all := lw_g (lw_at lw_m4 96 rfl) rfl
theorem q915 : (Jvm.Cond.methodLink "java/util/HashMap" (1 : Nat) ({ cls := "java/lang/Object", name := "hashCode", desc := "()I" } : Jvm.MethodName)) ∈ lw_all := lw_g (lw_at lw_m4 98 rfl) rfl
theorem q1006 : (Jvm.Cond.methodLink "java/util/HashMap" (152 : Nat) ({ cls := "java/util/HashMap", name := "putVal", desc := "(ILjava/lang/Object;Ljava/lang/Object;ZZ)Ljava/lang/Object;" } : Jvm.MethodName)) ∈ lw_all := lw_g (lw_at lw_m4 189 rfl) rfl
theorem q1007 : (Jvm.Cond.instanceMethod ({ cls := "java/util/HashMap", name := "putVal", desc := "(ILjava/lang/Object;Ljava/lang/Object;ZZ)Ljava/lang/Object;" } : Jvm.MethodName)) ∈ lw_all := lw_g (lw_at lw_m4 190 rfl) rfl
theorem q1008 : (Jvm.Cond.sameMethod "java/util/HashMap" "java/util/HashMap" "putVal" "(ILjava/lang/Object;Ljava/lang/Object;ZZ)Ljava/lang/Object;") ∈ lw_all := lw_g (lw_at lw_m4 191 rfl) rfl
theorem q1010 : (Jvm.Cond.code ({ cls := "java/util/HashMap", name := "putVal", desc := "(ILjava/lang/Object;Ljava/lang/Object;ZZ)Ljava/lang/Object;" } : Jvm.MethodName) prog_49_method_16_code (13 : Nat) (Option.some (Jvm.ClassFile.FieldType.object "java/lang/Object"))) ∈ lw_all := lw_g (lw_at lw_m4 193 rfl) rfl
theorem q1011 : (Jvm.Cond.methodLink "java/util/HashMap" (117 : Nat) ({ cls := "java/util/HashMap", name := "resize", desc := "()[Ljava/util/HashMap$Node;" } : Jvm.MethodName)) ∈ lw_all := lw_g (lw_at lw_m4 194 rfl) rfl
theorem q1012 : (Jvm.Cond.instanceMethod ({ cls := "java/util/HashMap", name := "resize", desc := "()[Ljava/util/HashMap$Node;" } : Jvm.MethodName)) ∈ lw_all := lw_g (lw_at lw_m4 195 rfl) rfl
theorem q1013 : (Jvm.Cond.sameMethod "java/util/HashMap" "java/util/HashMap" "resize" "()[Ljava/util/HashMap$Node;") ∈ lw_all := lw_g (lw_at lw_m4 196 rfl) rfl
theorem q1015 : (Jvm.Cond.code ({ cls := "java/util/HashMap", name := "resize", desc := "()[Ljava/util/HashMap$Node;" } : Jvm.MethodName) prog_49_method_17_code (14 : Nat) (Option.some (Jvm.ClassFile.FieldType.array (Jvm.ClassFile.FieldType.object "java/util/HashMap$Node")))) ∈ lw_all := lw_g (lw_at lw_m4 198 rfl) rfl
theorem q1016 : (Jvm.Cond.constant "java/util/HashMap" (209 : Nat) (2147483647 : Int32)) ∈ lw_all := lw_g (lw_at lw_m4 199 rfl) rfl
theorem q1017 : (Jvm.Cond.constantFloat "java/util/HashMap" (210 : Nat) (1317011456 : UInt32)) ∈ lw_all := lw_g (lw_at lw_m4 200 rfl) rfl
theorem q1018 : (Jvm.Cond.classLink "java/util/HashMap" (163 : Nat) "java/util/HashMap$Node") ∈ lw_all := lw_g (lw_at lw_m4 201 rfl) rfl
theorem q1020 : (Jvm.Cond.classLink "java/util/HashMap" (180 : Nat) "java/util/HashMap$TreeNode") ∈ lw_all := lw_g (lw_at lw_m4 203 rfl) rfl
theorem q1021 : (Jvm.Cond.methodLink "java/util/HashMap" (211 : Nat) ({ cls := "java/util/HashMap$TreeNode", name := "split", desc := "(Ljava/util/HashMap;[Ljava/util/HashMap$Node;II)V" } : Jvm.MethodName)) ∈ lw_all := lw_g (lw_at lw_m4 204 rfl) rfl
theorem q1031 : (Jvm.Cond.instanceMethod ({ cls := "java/util/HashMap", name := "replacementNode", desc := "(Ljava/util/HashMap$Node;Ljava/util/HashMap$Node;)Ljava/util/HashMap$Node;" } : Jvm.MethodName)) ∈ lw_all := lw_g (lw_at lw_m4 214 rfl) rfl
theorem q1032 : (Jvm.Cond.sameMethod "java/util/HashMap" "java/util/HashMap" "replacementNode" "(Ljava/util/HashMap$Node;Ljava/util/HashMap$Node;)Ljava/util/HashMap$Node;") ∈ lw_all := lw_g (lw_at lw_m4 215 rfl) rfl
theorem q1054 : (Jvm.Cond.fieldLink "java/util/HashMap" (168 : Nat) "java/util/HashMap$Node" "hash" "I") ∈ lw_all := lw_g (lw_at lw_m4 237 rfl) rfl
theorem q1061 : (Jvm.Cond.fieldLink "java/util/HashMap" (170 : Nat) "java/util/HashMap$Node" "key" "Ljava/lang/Object;") ∈ lw_all := lw_g (lw_at lw_m5 4 rfl) rfl
theorem q1065 : (Jvm.Cond.fieldLink "java/util/HashMap" (162 : Nat) "java/util/HashMap$Node" "value" "Ljava/lang/Object;") ∈ lw_all := lw_g (lw_at lw_m5 8 rfl) rfl
theorem q1072 : (Jvm.Cond.fieldLink "java/util/HashMap" (177 : Nat) "java/util/HashMap$Node" "next" "Ljava/util/HashMap$Node;") ∈ lw_all := lw_g (lw_at lw_m5 15 rfl) rfl
theorem q1073 : (Jvm.Cond.fieldLink "java/util/HashMap" (223 : Nat) "java/util/HashMap$TreeNode" "next" "Ljava/util/HashMap$Node;") ∈ lw_all := lw_g (lw_at lw_m5 16 rfl) rfl
theorem q1091 : (Jvm.Cond.declares ({ cls := "java/util/HashMap", name := "replacementNode", desc := "(Ljava/util/HashMap$Node;Ljava/util/HashMap$Node;)Ljava/util/HashMap$Node;" } : Jvm.MethodName)) ∈ lw_tbl := lw_at lw_m5 34 rfl
theorem q1097 : (Jvm.Cond.static ({ cls := "java/util/HashMap", name := "comparableClassFor", desc := "(Ljava/lang/Object;)Ljava/lang/Class;" } : Jvm.MethodName)) ∈ lw_all := lw_g (lw_at lw_m5 40 rfl) rfl
theorem q1098 : (Jvm.Cond.code ({ cls := "java/util/HashMap", name := "comparableClassFor", desc := "(Ljava/lang/Object;)Ljava/lang/Class;" } : Jvm.MethodName) prog_49_method_2_code (9 : Nat) (Option.some (Jvm.ClassFile.FieldType.object "java/lang/Class"))) ∈ lw_all := lw_g (lw_at lw_m5 41 rfl) rfl
theorem q1099 : (Jvm.Cond.classLink "java/util/HashMap" (7 : Nat) "java/lang/Comparable") ∈ lw_all := lw_g (lw_at lw_m5 42 rfl) rfl
theorem q1100 : (Jvm.Cond.methodLink "java/util/HashMap" (9 : Nat) ({ cls := "java/lang/Object", name := "getClass", desc := "()Ljava/lang/Class;" } : Jvm.MethodName)) ∈ lw_all := lw_g (lw_at lw_m5 43 rfl) rfl
theorem q1138 : (Jvm.Cond.classLink "java/util/HashMap" (13 : Nat) "java/lang/String") ∈ lw_all := lw_g (lw_at lw_m5 81 rfl) rfl
theorem q1140 : (Jvm.Cond.static ({ cls := "java/util/HashMap", name := "compareComparables", desc := "(Ljava/lang/Class;Ljava/lang/Object;Ljava/lang/Object;)I" } : Jvm.MethodName)) ∈ lw_all := lw_g (lw_at lw_m5 83 rfl) rfl
theorem q1141 : (Jvm.Cond.code ({ cls := "java/util/HashMap", name := "compareComparables", desc := "(Ljava/lang/Class;Ljava/lang/Object;Ljava/lang/Object;)I" } : Jvm.MethodName) prog_49_method_3_code (3 : Nat) (Option.some Jvm.ClassFile.FieldType.int)) ∈ lw_all := lw_g (lw_at lw_m5 84 rfl) rfl
theorem q1142 : (Jvm.Cond.interfaceEntry "java/util/HashMap" (30 : Nat)) ∈ lw_tbl := lw_at lw_m5 85 rfl
theorem q1143 : (Jvm.Cond.methodLink "java/util/HashMap" (30 : Nat) ({ cls := "java/lang/Comparable", name := "compareTo", desc := "(Ljava/lang/Object;)I" } : Jvm.MethodName)) ∈ lw_all := lw_g (lw_at lw_m5 86 rfl) rfl
theorem q1378 : (Jvm.Cond.methodLink "java/util/HashMap" (186 : Nat) ({ cls := "java/util/HashMap", name := "newNode", desc := "(ILjava/lang/Object;Ljava/lang/Object;Ljava/util/HashMap$Node;)Ljava/util/HashMap$Node;" } : Jvm.MethodName)) ∈ lw_all := lw_g (lw_at lw_m6 81 rfl) rfl
theorem q1379 : (Jvm.Cond.instanceMethod ({ cls := "java/util/HashMap", name := "newNode", desc := "(ILjava/lang/Object;Ljava/lang/Object;Ljava/util/HashMap$Node;)Ljava/util/HashMap$Node;" } : Jvm.MethodName)) ∈ lw_all := lw_g (lw_at lw_m6 82 rfl) rfl
theorem q1380 : (Jvm.Cond.sameMethod "java/util/HashMap" "java/util/HashMap" "newNode" "(ILjava/lang/Object;Ljava/lang/Object;Ljava/util/HashMap$Node;)Ljava/util/HashMap$Node;") ∈ lw_all := lw_g (lw_at lw_m6 83 rfl) rfl
theorem q1388 : (Jvm.Cond.declares ({ cls := "java/util/HashMap", name := "newNode", desc := "(ILjava/lang/Object;Ljava/lang/Object;Ljava/util/HashMap$Node;)Ljava/util/HashMap$Node;" } : Jvm.MethodName)) ∈ lw_tbl := lw_at lw_m6 91 rfl
theorem q1390 : (Jvm.Cond.methodLink "java/util/HashMap" (173 : Nat) ({ cls := "java/lang/Object", name := "equals", desc := "(Ljava/lang/Object;)Z" } : Jvm.MethodName)) ∈ lw_all := lw_g (lw_at lw_m6 93 rfl) rfl
theorem q1423 : (Jvm.Cond.methodLink "java/util/HashMap" (190 : Nat) ({ cls := "java/util/HashMap$TreeNode", name := "putTreeVal", desc := "(Ljava/util/HashMap;[Ljava/util/HashMap$Node;ILjava/lang/Object;Ljava/lang/Object;)Ljava/util/HashMap$TreeNode;" } : Jvm.MethodName)) ∈ lw_all := lw_g (lw_at lw_m6 126 rfl) rfl
theorem q1437 : (Jvm.Cond.instanceMethod ({ cls := "java/util/HashMap", name := "newTreeNode", desc := "(ILjava/lang/Object;Ljava/lang/Object;Ljava/util/HashMap$Node;)Ljava/util/HashMap$TreeNode;" } : Jvm.MethodName)) ∈ lw_all := lw_g (lw_at lw_m6 140 rfl) rfl
theorem q1438 : (Jvm.Cond.sameMethod "java/util/HashMap" "java/util/HashMap" "newTreeNode" "(ILjava/lang/Object;Ljava/lang/Object;Ljava/util/HashMap$Node;)Ljava/util/HashMap$TreeNode;") ∈ lw_all := lw_g (lw_at lw_m6 141 rfl) rfl
theorem q1452 : (Jvm.Cond.fieldLink "java/util/HashMap" (219 : Nat) "java/util/HashMap$TreeNode" "prev" "Ljava/util/HashMap$TreeNode;") ∈ lw_all := lw_g (lw_at lw_m6 155 rfl) rfl
theorem q1471 : (Jvm.Cond.declares ({ cls := "java/util/HashMap", name := "newTreeNode", desc := "(ILjava/lang/Object;Ljava/lang/Object;Ljava/util/HashMap$Node;)Ljava/util/HashMap$TreeNode;" } : Jvm.MethodName)) ∈ lw_tbl := lw_at lw_m6 174 rfl
theorem q1472 : (Jvm.Cond.methodLink "java/util/HashMap" (194 : Nat) ({ cls := "java/util/HashMap", name := "treeifyBin", desc := "([Ljava/util/HashMap$Node;I)V" } : Jvm.MethodName)) ∈ lw_all := lw_g (lw_at lw_m6 175 rfl) rfl
theorem q1473 : (Jvm.Cond.instanceMethod ({ cls := "java/util/HashMap", name := "treeifyBin", desc := "([Ljava/util/HashMap$Node;I)V" } : Jvm.MethodName)) ∈ lw_all := lw_g (lw_at lw_m6 176 rfl) rfl
theorem q1474 : (Jvm.Cond.sameMethod "java/util/HashMap" "java/util/HashMap" "treeifyBin" "([Ljava/util/HashMap$Node;I)V") ∈ lw_all := lw_g (lw_at lw_m6 177 rfl) rfl
theorem q1476 : (Jvm.Cond.code ({ cls := "java/util/HashMap", name := "treeifyBin", desc := "([Ljava/util/HashMap$Node;I)V" } : Jvm.MethodName) prog_49_method_18_code (9 : Nat) (Option.none : Option Jvm.ClassFile.FieldType)) ∈ lw_all := lw_g (lw_at lw_m6 179 rfl) rfl
theorem q1477 : (Jvm.Cond.methodLink "java/util/HashMap" (215 : Nat) ({ cls := "java/util/HashMap", name := "replacementTreeNode", desc := "(Ljava/util/HashMap$Node;Ljava/util/HashMap$Node;)Ljava/util/HashMap$TreeNode;" } : Jvm.MethodName)) ∈ lw_all := lw_g (lw_at lw_m6 180 rfl) rfl
theorem q1478 : (Jvm.Cond.instanceMethod ({ cls := "java/util/HashMap", name := "replacementTreeNode", desc := "(Ljava/util/HashMap$Node;Ljava/util/HashMap$Node;)Ljava/util/HashMap$TreeNode;" } : Jvm.MethodName)) ∈ lw_all := lw_g (lw_at lw_m6 181 rfl) rfl
theorem q1479 : (Jvm.Cond.sameMethod "java/util/HashMap" "java/util/HashMap" "replacementTreeNode" "(Ljava/util/HashMap$Node;Ljava/util/HashMap$Node;)Ljava/util/HashMap$TreeNode;") ∈ lw_all := lw_g (lw_at lw_m6 182 rfl) rfl
theorem q1483 : (Jvm.Cond.declares ({ cls := "java/util/HashMap", name := "replacementTreeNode", desc := "(Ljava/util/HashMap$Node;Ljava/util/HashMap$Node;)Ljava/util/HashMap$TreeNode;" } : Jvm.MethodName)) ∈ lw_tbl := lw_at lw_m6 186 rfl
theorem q1484 : (Jvm.Cond.methodLink "java/util/HashMap" (224 : Nat) ({ cls := "java/util/HashMap$TreeNode", name := "treeify", desc := "([Ljava/util/HashMap$Node;)V" } : Jvm.MethodName)) ∈ lw_all := lw_g (lw_at lw_m6 187 rfl) rfl
theorem q1485 : (Jvm.Cond.methodLink "java/util/HashMap" (198 : Nat) ({ cls := "java/util/HashMap", name := "afterNodeAccess", desc := "(Ljava/util/HashMap$Node;)V" } : Jvm.MethodName)) ∈ lw_all := lw_g (lw_at lw_m6 188 rfl) rfl
theorem q1486 : (Jvm.Cond.instanceMethod ({ cls := "java/util/HashMap", name := "afterNodeAccess", desc := "(Ljava/util/HashMap$Node;)V" } : Jvm.MethodName)) ∈ lw_all := lw_g (lw_at lw_m6 189 rfl) rfl
theorem q1487 : (Jvm.Cond.sameMethod "java/util/HashMap" "java/util/HashMap" "afterNodeAccess" "(Ljava/util/HashMap$Node;)V") ∈ lw_all := lw_g (lw_at lw_m6 190 rfl) rfl
theorem q1491 : (Jvm.Cond.declares ({ cls := "java/util/HashMap", name := "afterNodeAccess", desc := "(Ljava/util/HashMap$Node;)V" } : Jvm.MethodName)) ∈ lw_tbl := lw_at lw_m6 194 rfl
theorem q1492 : (Jvm.Cond.methodLink "java/util/HashMap" (205 : Nat) ({ cls := "java/util/HashMap", name := "afterNodeInsertion", desc := "(Z)V" } : Jvm.MethodName)) ∈ lw_all := lw_g (lw_at lw_m6 195 rfl) rfl
theorem q1493 : (Jvm.Cond.instanceMethod ({ cls := "java/util/HashMap", name := "afterNodeInsertion", desc := "(Z)V" } : Jvm.MethodName)) ∈ lw_all := lw_g (lw_at lw_m6 196 rfl) rfl
theorem q1494 : (Jvm.Cond.sameMethod "java/util/HashMap" "java/util/HashMap" "afterNodeInsertion" "(Z)V") ∈ lw_all := lw_g (lw_at lw_m6 197 rfl) rfl
theorem q1502 : (Jvm.Cond.declares ({ cls := "java/util/HashMap", name := "afterNodeInsertion", desc := "(Z)V" } : Jvm.MethodName)) ∈ lw_tbl := lw_at lw_m6 205 rfl
theorem q1614 : (Jvm.Cond.declares ({ cls := "java/util/HashMap", name := "put", desc := "(Ljava/lang/Object;Ljava/lang/Object;)Ljava/lang/Object;" } : Jvm.MethodName)) ∈ lw_tbl := lw_at lw_m7 77 rfl
theorem q1683 : (Jvm.Cond.declares ({ cls := "java/util/HashMap", name := "containsKey", desc := "(Ljava/lang/Object;)Z" } : Jvm.MethodName)) ∈ lw_tbl := lw_at lw_m7 146 rfl
theorem q1685 : (Jvm.Cond.instanceMethod ({ cls := "java/util/HashMap", name := "containsKey", desc := "(Ljava/lang/Object;)Z" } : Jvm.MethodName)) ∈ lw_all := lw_g (lw_at lw_m7 148 rfl) rfl
theorem q1686 : (Jvm.Cond.code ({ cls := "java/util/HashMap", name := "containsKey", desc := "(Ljava/lang/Object;)Z" } : Jvm.MethodName) prog_49_method_14_code (2 : Nat) (Option.some Jvm.ClassFile.FieldType.boolean)) ∈ lw_all := lw_g (lw_at lw_m7 149 rfl) rfl
theorem q1687 : (Jvm.Cond.methodLink "java/util/HashMap" (158 : Nat) ({ cls := "java/util/HashMap", name := "getNode", desc := "(Ljava/lang/Object;)Ljava/util/HashMap$Node;" } : Jvm.MethodName)) ∈ lw_all := lw_g (lw_at lw_m7 150 rfl) rfl
theorem q1688 : (Jvm.Cond.instanceMethod ({ cls := "java/util/HashMap", name := "getNode", desc := "(Ljava/lang/Object;)Ljava/util/HashMap$Node;" } : Jvm.MethodName)) ∈ lw_all := lw_g (lw_at lw_m7 151 rfl) rfl
theorem q1689 : (Jvm.Cond.sameMethod "java/util/HashMap" "java/util/HashMap" "getNode" "(Ljava/lang/Object;)Ljava/util/HashMap$Node;") ∈ lw_all := lw_g (lw_at lw_m7 152 rfl) rfl
theorem q1691 : (Jvm.Cond.code ({ cls := "java/util/HashMap", name := "getNode", desc := "(Ljava/lang/Object;)Ljava/util/HashMap$Node;" } : Jvm.MethodName) prog_49_method_13_code (8 : Nat) (Option.some (Jvm.ClassFile.FieldType.object "java/util/HashMap$Node"))) ∈ lw_all := lw_g (lw_at lw_m7 154 rfl) rfl
theorem q1692 : (Jvm.Cond.methodLink "java/util/HashMap" (182 : Nat) ({ cls := "java/util/HashMap$TreeNode", name := "getTreeNode", desc := "(ILjava/lang/Object;)Ljava/util/HashMap$TreeNode;" } : Jvm.MethodName)) ∈ lw_all := lw_g (lw_at lw_m7 155 rfl) rfl
theorem q1784 : (Jvm.Cond.instanceMethod ({ cls := "java/util/HashMap", name := "size", desc := "()I" } : Jvm.MethodName)) ∈ lw_all := lw_g (lw_at lw_m8 7 rfl) rfl
theorem q1785 : (Jvm.Cond.sameMethod "java/util/HashMap" "java/util/HashMap" "size" "()I") ∈ lw_all := lw_g (lw_at lw_m8 8 rfl) rfl
theorem q1787 : (Jvm.Cond.code ({ cls := "java/util/HashMap", name := "size", desc := "()I" } : Jvm.MethodName) prog_49_method_10_code (1 : Nat) (Option.some Jvm.ClassFile.FieldType.int)) ∈ lw_all := lw_g (lw_at lw_m8 10 rfl) rfl
theorem q2198 : (Jvm.Cond.declares ({ cls := "java/util/HashMap", name := "remove", desc := "(Ljava/lang/Object;)Ljava/lang/Object;" } : Jvm.MethodName)) ∈ lw_tbl := lw_at lw_m9 181 rfl
theorem q2200 : (Jvm.Cond.instanceMethod ({ cls := "java/util/HashMap", name := "remove", desc := "(Ljava/lang/Object;)Ljava/lang/Object;" } : Jvm.MethodName)) ∈ lw_all := lw_g (lw_at lw_m9 183 rfl) rfl
theorem q2201 : (Jvm.Cond.code ({ cls := "java/util/HashMap", name := "remove", desc := "(Ljava/lang/Object;)Ljava/lang/Object;" } : Jvm.MethodName) prog_49_method_20_code (3 : Nat) (Option.some (Jvm.ClassFile.FieldType.object "java/lang/Object"))) ∈ lw_all := lw_g (lw_at lw_m9 184 rfl) rfl
theorem q2202 : (Jvm.Cond.methodLink "java/util/HashMap" (228 : Nat) ({ cls := "java/util/HashMap", name := "removeNode", desc := "(ILjava/lang/Object;Ljava/lang/Object;ZZ)Ljava/util/HashMap$Node;" } : Jvm.MethodName)) ∈ lw_all := lw_g (lw_at lw_m9 185 rfl) rfl
theorem q2203 : (Jvm.Cond.instanceMethod ({ cls := "java/util/HashMap", name := "removeNode", desc := "(ILjava/lang/Object;Ljava/lang/Object;ZZ)Ljava/util/HashMap$Node;" } : Jvm.MethodName)) ∈ lw_all := lw_g (lw_at lw_m9 186 rfl) rfl
theorem q2204 : (Jvm.Cond.sameMethod "java/util/HashMap" "java/util/HashMap" "removeNode" "(ILjava/lang/Object;Ljava/lang/Object;ZZ)Ljava/util/HashMap$Node;") ∈ lw_all := lw_g (lw_at lw_m9 187 rfl) rfl
theorem q2206 : (Jvm.Cond.code ({ cls := "java/util/HashMap", name := "removeNode", desc := "(ILjava/lang/Object;Ljava/lang/Object;ZZ)Ljava/util/HashMap$Node;" } : Jvm.MethodName) prog_49_method_21_code (14 : Nat) (Option.some (Jvm.ClassFile.FieldType.object "java/util/HashMap$Node"))) ∈ lw_all := lw_g (lw_at lw_m9 189 rfl) rfl
theorem q2207 : (Jvm.Cond.methodLink "java/util/HashMap" (232 : Nat) ({ cls := "java/util/HashMap$TreeNode", name := "removeTreeNode", desc := "(Ljava/util/HashMap;[Ljava/util/HashMap$Node;Z)V" } : Jvm.MethodName)) ∈ lw_all := lw_g (lw_at lw_m9 190 rfl) rfl
theorem q2214 : (Jvm.Cond.methodLink "java/util/HashMap" (236 : Nat) ({ cls := "java/util/HashMap", name := "afterNodeRemoval", desc := "(Ljava/util/HashMap$Node;)V" } : Jvm.MethodName)) ∈ lw_all := lw_g (lw_at lw_m9 197 rfl) rfl
theorem q2215 : (Jvm.Cond.instanceMethod ({ cls := "java/util/HashMap", name := "afterNodeRemoval", desc := "(Ljava/util/HashMap$Node;)V" } : Jvm.MethodName)) ∈ lw_all := lw_g (lw_at lw_m9 198 rfl) rfl
theorem q2216 : (Jvm.Cond.sameMethod "java/util/HashMap" "java/util/HashMap" "afterNodeRemoval" "(Ljava/util/HashMap$Node;)V") ∈ lw_all := lw_g (lw_at lw_m9 199 rfl) rfl
theorem q2220 : (Jvm.Cond.declares ({ cls := "java/util/HashMap", name := "afterNodeRemoval", desc := "(Ljava/util/HashMap$Node;)V" } : Jvm.MethodName)) ∈ lw_tbl := lw_at lw_m9 203 rfl
theorem q2228 : (Jvm.Cond.instanceMethod ({ cls := "java/util/HashMap", name := "clear", desc := "()V" } : Jvm.MethodName)) ∈ lw_all := lw_g (lw_at lw_m9 211 rfl) rfl
theorem q2229 : (Jvm.Cond.sameMethod "java/util/HashMap" "java/util/HashMap" "clear" "()V") ∈ lw_all := lw_g (lw_at lw_m9 212 rfl) rfl
theorem q2234 : (Jvm.Cond.code ({ cls := "java/util/HashMap", name := "clear", desc := "()V" } : Jvm.MethodName) prog_49_method_22_code (3 : Nat) (Option.none : Option Jvm.ClassFile.FieldType)) ∈ lw_all := lw_g (lw_at lw_m9 217 rfl) rfl
theorem q2235 : (Jvm.Cond.declares ({ cls := "java/util/HashMap", name := "clear", desc := "()V" } : Jvm.MethodName)) ∈ lw_tbl := lw_at lw_m9 218 rfl
theorem q2514 : (Jvm.Cond.declares ({ cls := "java/util/HashMap", name := "getNode", desc := "(Ljava/lang/Object;)Ljava/util/HashMap$Node;" } : Jvm.MethodName)) ∈ lw_tbl := lw_at lw_m11 17 rfl
theorem q3156 : (Jvm.Cond.sameMethod "java/util/HashMap" "java/util/HashMap" "containsKey" "(Ljava/lang/Object;)Z") ∈ lw_all := lw_g (lw_at lw_m13 179 rfl) rfl
/-! java/util/LinkedHashMap -/
set_option maxRecDepth 100000
def RJ5 : String := "java/util/LinkedHashMap"
def TJ5 : u_T := fun k => match k with
  | 0 => ("java/util/HashMap", "table", "[Ljava/util/HashMap$Node;", false)
  | 1 => ("java/util/HashMap", "entrySet", "Ljava/util/Set;", false)
  | 2 => ("java/util/HashMap", "size", "I", false)
  | 3 => ("java/util/HashMap", "modCount", "I", false)
  | 4 => ("java/util/HashMap", "threshold", "I", false)
  | 5 => ("java/util/HashMap", "loadFactor", "F", true)
  | 6 => ("java/util/AbstractMap", "keySet", "Ljava/util/Set;", false)
  | 7 => ("java/util/AbstractMap", "values", "Ljava/util/Collection;", false)
  | 8 => ("java/util/LinkedHashMap", "head", "Ljava/util/LinkedHashMap$Entry;", false)
  | 9 => ("java/util/LinkedHashMap", "tail", "Ljava/util/LinkedHashMap$Entry;", false)
  | 10 => ("java/util/LinkedHashMap", "accessOrder", "Z", true)
  | _ => ("java/util/LinkedHashMap", "putMode", "I", false)
def tyJ5 : Nat → FieldType := fun k => match k with
  | 0 => .array (.object "java/util/HashMap$Node")
  | 1 => .object "java/util/Set"
  | 2 => .int
  | 3 => .int
  | 4 => .int
  | 5 => .float
  | 6 => .object "java/util/Set"
  | 7 => .object "java/util/Collection"
  | 8 => .object "java/util/LinkedHashMap$Entry"
  | 9 => .object "java/util/LinkedHashMap$Entry"
  | 10 => .boolean
  | _ => .int
abbrev wsJ50 : List Cond := u_ws RJ5 TJ5 12
theorem nmJ5 : ∀ a, a < 12 → ∀ b, b < 12 → a ≠ b → (TJ5 a).2.1 ≠ (TJ5 b).2.1 := by decide +kernel
theorem tyJ5_ok : ∀ k, k < 12 → parseFieldDescriptor (TJ5 k).2.2.1 = some (tyJ5 k) := by decide +kernel
abbrev cJ5_init : ByteArray := prog_57_method_16_code
def yJ5_init : MethodName := ⟨RJ5, "<init>", "()V"⟩
def dkwJ5_init_0 : List UInt8 := [42, 183, 0, 87, 42, 3, 181, 0, 1, 42, 3, 181, 0, 64, 177]
abbrev dktJ5_init_0 : List UInt8 := dkwJ5_init_0 ++ []
theorem dksJ5_init_0 : cJ5_init.data.toList.drop 0 = dktJ5_init_0 := by decide +kernel
theorem dJ5_init_0 : decode cJ5_init 0 = .ok (.aload_n 0, 1) := dk_42 (dk_at dksJ5_init_0 0 rfl rfl)
theorem dJ5_init_1 : decode cJ5_init 1 = .ok (.invokespecial 87, 3) := dk_183 0 87 (dk_at dksJ5_init_0 1 rfl rfl)
theorem dJ5_init_4 : decode cJ5_init 4 = .ok (.aload_n 0, 1) := dk_42 (dk_at dksJ5_init_0 4 rfl rfl)
theorem dJ5_init_5 : decode cJ5_init 5 = .ok (.iconst 0, 1) := dk_3 (dk_at dksJ5_init_0 5 rfl rfl)
theorem dJ5_init_6 : decode cJ5_init 6 = .ok (.putfield 1, 3) := dk_181 0 1 (dk_at dksJ5_init_0 6 rfl rfl)
theorem dJ5_init_9 : decode cJ5_init 9 = .ok (.aload_n 0, 1) := dk_42 (dk_at dksJ5_init_0 9 rfl rfl)
theorem dJ5_init_10 : decode cJ5_init 10 = .ok (.iconst 0, 1) := dk_3 (dk_at dksJ5_init_0 10 rfl rfl)
theorem dJ5_init_11 : decode cJ5_init 11 = .ok (.putfield 64, 3) := dk_181 0 64 (dk_at dksJ5_init_0 11 rfl rfl)
theorem dJ5_init_14 : decode cJ5_init 14 = .ok (.return_, 1) := dk_177 (dk_at dksJ5_init_0 14 rfl rfl)
abbrev cJ5_init_2 : ByteArray := prog_57_method_14_code
def yJ5_init_2 : MethodName := ⟨RJ5, "<init>", "(IF)V"⟩
def dkwJ5_init_2_0 : List UInt8 := [42, 27, 36, 183, 0, 81, 42, 3, 181, 0, 1, 42, 3, 181, 0, 64, 177]
abbrev dktJ5_init_2_0 : List UInt8 := dkwJ5_init_2_0 ++ []
theorem dksJ5_init_2_0 : cJ5_init_2.data.toList.drop 0 = dktJ5_init_2_0 := by decide +kernel
theorem dJ5_init_2_0 : decode cJ5_init_2 0 = .ok (.aload_n 0, 1) := dk_42 (dk_at dksJ5_init_2_0 0 rfl rfl)
theorem dJ5_init_2_1 : decode cJ5_init_2 1 = .ok (.iload_n 1, 1) := dk_27 (dk_at dksJ5_init_2_0 1 rfl rfl)
theorem dJ5_init_2_2 : decode cJ5_init_2 2 = .ok (.fload_n 2, 1) := dk_36 (dk_at dksJ5_init_2_0 2 rfl rfl)
theorem dJ5_init_2_3 : decode cJ5_init_2 3 = .ok (.invokespecial 81, 3) := dk_183 0 81 (dk_at dksJ5_init_2_0 3 rfl rfl)
theorem dJ5_init_2_6 : decode cJ5_init_2 6 = .ok (.aload_n 0, 1) := dk_42 (dk_at dksJ5_init_2_0 6 rfl rfl)
theorem dJ5_init_2_7 : decode cJ5_init_2 7 = .ok (.iconst 0, 1) := dk_3 (dk_at dksJ5_init_2_0 7 rfl rfl)
theorem dJ5_init_2_8 : decode cJ5_init_2 8 = .ok (.putfield 1, 3) := dk_181 0 1 (dk_at dksJ5_init_2_0 8 rfl rfl)
theorem dJ5_init_2_11 : decode cJ5_init_2 11 = .ok (.aload_n 0, 1) := dk_42 (dk_at dksJ5_init_2_0 11 rfl rfl)
theorem dJ5_init_2_12 : decode cJ5_init_2 12 = .ok (.iconst 0, 1) := dk_3 (dk_at dksJ5_init_2_0 12 rfl rfl)
theorem dJ5_init_2_13 : decode cJ5_init_2 13 = .ok (.putfield 64, 3) := dk_181 0 64 (dk_at dksJ5_init_2_0 13 rfl rfl)
theorem dJ5_init_2_16 : decode cJ5_init_2 16 = .ok (.return_, 1) := dk_177 (dk_at dksJ5_init_2_0 16 rfl rfl)
abbrev cJ5_keySet : ByteArray := prog_57_method_24_code
def yJ5_keySet : MethodName := ⟨RJ5, "keySet", "()Ljava/util/Set;"⟩
theorem dJ5_keySet_0 : decode cJ5_keySet 0 = .ok (.aload_n 0, 1) := by decide +kernel
theorem dJ5_keySet_1 : decode cJ5_keySet 1 = .ok (.invokevirtual 113, 3) := by decide +kernel
theorem dJ5_keySet_4 : decode cJ5_keySet 4 = .ok (.areturn, 1) := by decide +kernel
abbrev cJ5_sequencedKeySet : ByteArray := prog_57_method_25_code
def yJ5_sequencedKeySet : MethodName := ⟨RJ5, "sequencedKeySet", "()Ljava/util/SequencedSet;"⟩
def dkwJ5_sequencedKeySet_1 : List UInt8 := [44, 176, 43, 192, 0, 126, 176]
abbrev dktJ5_sequencedKeySet_1 : List UInt8 := dkwJ5_sequencedKeySet_1 ++ []
def dkwJ5_sequencedKeySet_0 : List UInt8 := [42, 180, 0, 117, 76, 43, 199, 0, 20, 187, 0, 121, 89, 42, 3, 183, 0, 123, 77, 42, 44, 181, 0, 117]
abbrev dktJ5_sequencedKeySet_0 : List UInt8 := dkwJ5_sequencedKeySet_0 ++ dktJ5_sequencedKeySet_1
theorem dksJ5_sequencedKeySet_0 : cJ5_sequencedKeySet.data.toList.drop 0 = dktJ5_sequencedKeySet_0 := by decide +kernel
theorem dksJ5_sequencedKeySet_1 : cJ5_sequencedKeySet.data.toList.drop 24 = dktJ5_sequencedKeySet_1 := dk_seg dksJ5_sequencedKeySet_0 24 rfl rfl
theorem dJ5_sequencedKeySet_0 : decode cJ5_sequencedKeySet 0 = .ok (.aload_n 0, 1) := dk_42 (dk_at dksJ5_sequencedKeySet_0 0 rfl rfl)
theorem dJ5_sequencedKeySet_1 : decode cJ5_sequencedKeySet 1 = .ok (.getfield 117, 3) := dk_180 0 117 (dk_at dksJ5_sequencedKeySet_0 1 rfl rfl)
theorem dJ5_sequencedKeySet_4 : decode cJ5_sequencedKeySet 4 = .ok (.astore_n 1, 1) := dk_76 (dk_at dksJ5_sequencedKeySet_0 4 rfl rfl)
theorem dJ5_sequencedKeySet_5 : decode cJ5_sequencedKeySet 5 = .ok (.aload_n 1, 1) := dk_43 (dk_at dksJ5_sequencedKeySet_0 5 rfl rfl)
theorem dJ5_sequencedKeySet_6 : decode cJ5_sequencedKeySet 6 = .ok (.ifnonnull 20, 3) := dk_199 0 20 (dk_at dksJ5_sequencedKeySet_0 6 rfl rfl)
theorem dJ5_sequencedKeySet_9 : decode cJ5_sequencedKeySet 9 = .ok (.new 121, 3) := dk_187 0 121 (dk_at dksJ5_sequencedKeySet_0 9 rfl rfl)
theorem dJ5_sequencedKeySet_12 : decode cJ5_sequencedKeySet 12 = .ok (.dup, 1) := dk_89 (dk_at dksJ5_sequencedKeySet_0 12 rfl rfl)
theorem dJ5_sequencedKeySet_13 : decode cJ5_sequencedKeySet 13 = .ok (.aload_n 0, 1) := dk_42 (dk_at dksJ5_sequencedKeySet_0 13 rfl rfl)
theorem dJ5_sequencedKeySet_14 : decode cJ5_sequencedKeySet 14 = .ok (.iconst 0, 1) := dk_3 (dk_at dksJ5_sequencedKeySet_0 14 rfl rfl)
theorem dJ5_sequencedKeySet_15 : decode cJ5_sequencedKeySet 15 = .ok (.invokespecial 123, 3) := dk_183 0 123 (dk_at dksJ5_sequencedKeySet_0 15 rfl rfl)
theorem dJ5_sequencedKeySet_18 : decode cJ5_sequencedKeySet 18 = .ok (.astore_n 2, 1) := dk_77 (dk_at dksJ5_sequencedKeySet_0 18 rfl rfl)
theorem dJ5_sequencedKeySet_19 : decode cJ5_sequencedKeySet 19 = .ok (.aload_n 0, 1) := dk_42 (dk_at dksJ5_sequencedKeySet_0 19 rfl rfl)
theorem dJ5_sequencedKeySet_20 : decode cJ5_sequencedKeySet 20 = .ok (.aload_n 2, 1) := dk_44 (dk_at dksJ5_sequencedKeySet_0 20 rfl rfl)
theorem dJ5_sequencedKeySet_21 : decode cJ5_sequencedKeySet 21 = .ok (.putfield 117, 3) := dk_181 0 117 (dk_at dksJ5_sequencedKeySet_0 21 rfl rfl)
theorem dJ5_sequencedKeySet_24 : decode cJ5_sequencedKeySet 24 = .ok (.aload_n 2, 1) := dk_44 (dk_at dksJ5_sequencedKeySet_1 0 rfl rfl)
theorem dJ5_sequencedKeySet_25 : decode cJ5_sequencedKeySet 25 = .ok (.areturn, 1) := dk_176 (dk_at dksJ5_sequencedKeySet_1 1 rfl rfl)
theorem dJ5_sequencedKeySet_26 : decode cJ5_sequencedKeySet 26 = .ok (.aload_n 1, 1) := dk_43 (dk_at dksJ5_sequencedKeySet_1 2 rfl rfl)
theorem dJ5_sequencedKeySet_27 : decode cJ5_sequencedKeySet 27 = .ok (.checkcast 126, 3) := dk_192 0 126 (dk_at dksJ5_sequencedKeySet_1 3 rfl rfl)
theorem dJ5_sequencedKeySet_30 : decode cJ5_sequencedKeySet 30 = .ok (.areturn, 1) := dk_176 (dk_at dksJ5_sequencedKeySet_1 6 rfl rfl)
abbrev cJ5_newNode : ByteArray := prog_57_method_4_code
def yJ5_newNode : MethodName := ⟨RJ5, "newNode", "(ILjava/lang/Object;Ljava/lang/Object;Ljava/util/HashMap$Node;)Ljava/util/HashMap$Node;"⟩
def dkwJ5_newNode_0 : List UInt8 := [187, 0, 15, 89, 27, 44, 45, 25, 4, 183, 0, 28, 58, 5, 42, 25, 5, 182, 0, 32, 25, 5, 176]
abbrev dktJ5_newNode_0 : List UInt8 := dkwJ5_newNode_0 ++ []
theorem dksJ5_newNode_0 : cJ5_newNode.data.toList.drop 0 = dktJ5_newNode_0 := by decide +kernel
theorem dJ5_newNode_0 : decode cJ5_newNode 0 = .ok (.new 15, 3) := dk_187 0 15 (dk_at dksJ5_newNode_0 0 rfl rfl)
theorem dJ5_newNode_3 : decode cJ5_newNode 3 = .ok (.dup, 1) := dk_89 (dk_at dksJ5_newNode_0 3 rfl rfl)
theorem dJ5_newNode_4 : decode cJ5_newNode 4 = .ok (.iload_n 1, 1) := dk_27 (dk_at dksJ5_newNode_0 4 rfl rfl)
theorem dJ5_newNode_5 : decode cJ5_newNode 5 = .ok (.aload_n 2, 1) := dk_44 (dk_at dksJ5_newNode_0 5 rfl rfl)
theorem dJ5_newNode_6 : decode cJ5_newNode 6 = .ok (.aload_n 3, 1) := dk_45 (dk_at dksJ5_newNode_0 6 rfl rfl)
theorem dJ5_newNode_7 : decode cJ5_newNode 7 = .ok (.aload 4, 2) := dk_25 4 (dk_at dksJ5_newNode_0 7 rfl rfl)
theorem dJ5_newNode_9 : decode cJ5_newNode 9 = .ok (.invokespecial 28, 3) := dk_183 0 28 (dk_at dksJ5_newNode_0 9 rfl rfl)
theorem dJ5_newNode_12 : decode cJ5_newNode 12 = .ok (.astore 5, 2) := dk_58 5 (dk_at dksJ5_newNode_0 12 rfl rfl)
theorem dJ5_newNode_14 : decode cJ5_newNode 14 = .ok (.aload_n 0, 1) := dk_42 (dk_at dksJ5_newNode_0 14 rfl rfl)
theorem dJ5_newNode_15 : decode cJ5_newNode 15 = .ok (.aload 5, 2) := dk_25 5 (dk_at dksJ5_newNode_0 15 rfl rfl)
theorem dJ5_newNode_17 : decode cJ5_newNode 17 = .ok (.invokevirtual 32, 3) := dk_182 0 32 (dk_at dksJ5_newNode_0 17 rfl rfl)
theorem dJ5_newNode_20 : decode cJ5_newNode 20 = .ok (.aload 5, 2) := dk_25 5 (dk_at dksJ5_newNode_0 20 rfl rfl)
theorem dJ5_newNode_22 : decode cJ5_newNode 22 = .ok (.areturn, 1) := dk_176 (dk_at dksJ5_newNode_0 22 rfl rfl)
abbrev cJ5_linkNodeAtEnd : ByteArray := prog_57_method_1_code
def yJ5_linkNodeAtEnd : MethodName := ⟨RJ5, "linkNodeAtEnd", "(Ljava/util/LinkedHashMap$Entry;)V"⟩
def dkwJ5_linkNodeAtEnd_3 : List UInt8 := [181, 0, 14, 177]
abbrev dktJ5_linkNodeAtEnd_3 : List UInt8 := dkwJ5_linkNodeAtEnd_3 ++ []
def dkwJ5_linkNodeAtEnd_2 : List UInt8 := [42, 43, 181, 0, 11, 44, 199, 0, 11, 42, 43, 181, 0, 7, 167, 0, 13, 43, 44, 181, 0, 19, 44, 43]
abbrev dktJ5_linkNodeAtEnd_2 : List UInt8 := dkwJ5_linkNodeAtEnd_2 ++ dktJ5_linkNodeAtEnd_3
def dkwJ5_linkNodeAtEnd_1 : List UInt8 := [181, 0, 11, 167, 0, 13, 43, 44, 181, 0, 14, 44, 43, 181, 0, 19, 167, 0, 35, 42, 180, 0, 11, 77]
abbrev dktJ5_linkNodeAtEnd_1 : List UInt8 := dkwJ5_linkNodeAtEnd_1 ++ dktJ5_linkNodeAtEnd_2
def dkwJ5_linkNodeAtEnd_0 : List UInt8 := [42, 180, 0, 1, 4, 160, 0, 38, 42, 180, 0, 7, 77, 42, 43, 181, 0, 7, 44, 199, 0, 11, 42, 43]
abbrev dktJ5_linkNodeAtEnd_0 : List UInt8 := dkwJ5_linkNodeAtEnd_0 ++ dktJ5_linkNodeAtEnd_1
theorem dksJ5_linkNodeAtEnd_0 : cJ5_linkNodeAtEnd.data.toList.drop 0 = dktJ5_linkNodeAtEnd_0 := by decide +kernel
theorem dksJ5_linkNodeAtEnd_1 : cJ5_linkNodeAtEnd.data.toList.drop 24 = dktJ5_linkNodeAtEnd_1 := dk_seg dksJ5_linkNodeAtEnd_0 24 rfl rfl
theorem dksJ5_linkNodeAtEnd_2 : cJ5_linkNodeAtEnd.data.toList.drop 48 = dktJ5_linkNodeAtEnd_2 := dk_seg dksJ5_linkNodeAtEnd_1 24 rfl rfl
theorem dksJ5_linkNodeAtEnd_3 : cJ5_linkNodeAtEnd.data.toList.drop 72 = dktJ5_linkNodeAtEnd_3 := dk_seg dksJ5_linkNodeAtEnd_2 24 rfl rfl
theorem dJ5_linkNodeAtEnd_0 : decode cJ5_linkNodeAtEnd 0 = .ok (.aload_n 0, 1) := dk_42 (dk_at dksJ5_linkNodeAtEnd_0 0 rfl rfl)
theorem dJ5_linkNodeAtEnd_1 : decode cJ5_linkNodeAtEnd 1 = .ok (.getfield 1, 3) := dk_180 0 1 (dk_at dksJ5_linkNodeAtEnd_0 1 rfl rfl)
theorem dJ5_linkNodeAtEnd_4 : decode cJ5_linkNodeAtEnd 4 = .ok (.iconst 1, 1) := dk_4 (dk_at dksJ5_linkNodeAtEnd_0 4 rfl rfl)
theorem dJ5_linkNodeAtEnd_5 : decode cJ5_linkNodeAtEnd 5 = .ok (.if_icmp .ne 38, 3) := dk_160 0 38 (dk_at dksJ5_linkNodeAtEnd_0 5 rfl rfl)
theorem dJ5_linkNodeAtEnd_8 : decode cJ5_linkNodeAtEnd 8 = .ok (.aload_n 0, 1) := dk_42 (dk_at dksJ5_linkNodeAtEnd_0 8 rfl rfl)
theorem dJ5_linkNodeAtEnd_9 : decode cJ5_linkNodeAtEnd 9 = .ok (.getfield 7, 3) := dk_180 0 7 (dk_at dksJ5_linkNodeAtEnd_0 9 rfl rfl)
theorem dJ5_linkNodeAtEnd_12 : decode cJ5_linkNodeAtEnd 12 = .ok (.astore_n 2, 1) := dk_77 (dk_at dksJ5_linkNodeAtEnd_0 12 rfl rfl)
theorem dJ5_linkNodeAtEnd_13 : decode cJ5_linkNodeAtEnd 13 = .ok (.aload_n 0, 1) := dk_42 (dk_at dksJ5_linkNodeAtEnd_0 13 rfl rfl)
theorem dJ5_linkNodeAtEnd_14 : decode cJ5_linkNodeAtEnd 14 = .ok (.aload_n 1, 1) := dk_43 (dk_at dksJ5_linkNodeAtEnd_0 14 rfl rfl)
theorem dJ5_linkNodeAtEnd_15 : decode cJ5_linkNodeAtEnd 15 = .ok (.putfield 7, 3) := dk_181 0 7 (dk_at dksJ5_linkNodeAtEnd_0 15 rfl rfl)
theorem dJ5_linkNodeAtEnd_18 : decode cJ5_linkNodeAtEnd 18 = .ok (.aload_n 2, 1) := dk_44 (dk_at dksJ5_linkNodeAtEnd_0 18 rfl rfl)
theorem dJ5_linkNodeAtEnd_19 : decode cJ5_linkNodeAtEnd 19 = .ok (.ifnonnull 11, 3) := dk_199 0 11 (dk_at dksJ5_linkNodeAtEnd_0 19 rfl rfl)
theorem dJ5_linkNodeAtEnd_22 : decode cJ5_linkNodeAtEnd 22 = .ok (.aload_n 0, 1) := dk_42 (dk_at dksJ5_linkNodeAtEnd_0 22 rfl rfl)
theorem dJ5_linkNodeAtEnd_23 : decode cJ5_linkNodeAtEnd 23 = .ok (.aload_n 1, 1) := dk_43 (dk_at dksJ5_linkNodeAtEnd_0 23 rfl rfl)
theorem dJ5_linkNodeAtEnd_24 : decode cJ5_linkNodeAtEnd 24 = .ok (.putfield 11, 3) := dk_181 0 11 (dk_at dksJ5_linkNodeAtEnd_1 0 rfl rfl)
theorem dJ5_linkNodeAtEnd_27 : decode cJ5_linkNodeAtEnd 27 = .ok (.goto 13, 3) := dk_167 0 13 (dk_at dksJ5_linkNodeAtEnd_1 3 rfl rfl)
theorem dJ5_linkNodeAtEnd_30 : decode cJ5_linkNodeAtEnd 30 = .ok (.aload_n 1, 1) := dk_43 (dk_at dksJ5_linkNodeAtEnd_1 6 rfl rfl)
theorem dJ5_linkNodeAtEnd_31 : decode cJ5_linkNodeAtEnd 31 = .ok (.aload_n 2, 1) := dk_44 (dk_at dksJ5_linkNodeAtEnd_1 7 rfl rfl)
theorem dJ5_linkNodeAtEnd_32 : decode cJ5_linkNodeAtEnd 32 = .ok (.putfield 14, 3) := dk_181 0 14 (dk_at dksJ5_linkNodeAtEnd_1 8 rfl rfl)
theorem dJ5_linkNodeAtEnd_35 : decode cJ5_linkNodeAtEnd 35 = .ok (.aload_n 2, 1) := dk_44 (dk_at dksJ5_linkNodeAtEnd_1 11 rfl rfl)
theorem dJ5_linkNodeAtEnd_36 : decode cJ5_linkNodeAtEnd 36 = .ok (.aload_n 1, 1) := dk_43 (dk_at dksJ5_linkNodeAtEnd_1 12 rfl rfl)
theorem dJ5_linkNodeAtEnd_37 : decode cJ5_linkNodeAtEnd 37 = .ok (.putfield 19, 3) := dk_181 0 19 (dk_at dksJ5_linkNodeAtEnd_1 13 rfl rfl)
theorem dJ5_linkNodeAtEnd_40 : decode cJ5_linkNodeAtEnd 40 = .ok (.goto 35, 3) := dk_167 0 35 (dk_at dksJ5_linkNodeAtEnd_1 16 rfl rfl)
theorem dJ5_linkNodeAtEnd_43 : decode cJ5_linkNodeAtEnd 43 = .ok (.aload_n 0, 1) := dk_42 (dk_at dksJ5_linkNodeAtEnd_1 19 rfl rfl)
theorem dJ5_linkNodeAtEnd_44 : decode cJ5_linkNodeAtEnd 44 = .ok (.getfield 11, 3) := dk_180 0 11 (dk_at dksJ5_linkNodeAtEnd_1 20 rfl rfl)
theorem dJ5_linkNodeAtEnd_47 : decode cJ5_linkNodeAtEnd 47 = .ok (.astore_n 2, 1) := dk_77 (dk_at dksJ5_linkNodeAtEnd_1 23 rfl rfl)
theorem dJ5_linkNodeAtEnd_48 : decode cJ5_linkNodeAtEnd 48 = .ok (.aload_n 0, 1) := dk_42 (dk_at dksJ5_linkNodeAtEnd_2 0 rfl rfl)
theorem dJ5_linkNodeAtEnd_49 : decode cJ5_linkNodeAtEnd 49 = .ok (.aload_n 1, 1) := dk_43 (dk_at dksJ5_linkNodeAtEnd_2 1 rfl rfl)
theorem dJ5_linkNodeAtEnd_50 : decode cJ5_linkNodeAtEnd 50 = .ok (.putfield 11, 3) := dk_181 0 11 (dk_at dksJ5_linkNodeAtEnd_2 2 rfl rfl)
theorem dJ5_linkNodeAtEnd_53 : decode cJ5_linkNodeAtEnd 53 = .ok (.aload_n 2, 1) := dk_44 (dk_at dksJ5_linkNodeAtEnd_2 5 rfl rfl)
theorem dJ5_linkNodeAtEnd_54 : decode cJ5_linkNodeAtEnd 54 = .ok (.ifnonnull 11, 3) := dk_199 0 11 (dk_at dksJ5_linkNodeAtEnd_2 6 rfl rfl)
theorem dJ5_linkNodeAtEnd_57 : decode cJ5_linkNodeAtEnd 57 = .ok (.aload_n 0, 1) := dk_42 (dk_at dksJ5_linkNodeAtEnd_2 9 rfl rfl)
theorem dJ5_linkNodeAtEnd_58 : decode cJ5_linkNodeAtEnd 58 = .ok (.aload_n 1, 1) := dk_43 (dk_at dksJ5_linkNodeAtEnd_2 10 rfl rfl)
theorem dJ5_linkNodeAtEnd_59 : decode cJ5_linkNodeAtEnd 59 = .ok (.putfield 7, 3) := dk_181 0 7 (dk_at dksJ5_linkNodeAtEnd_2 11 rfl rfl)
theorem dJ5_linkNodeAtEnd_62 : decode cJ5_linkNodeAtEnd 62 = .ok (.goto 13, 3) := dk_167 0 13 (dk_at dksJ5_linkNodeAtEnd_2 14 rfl rfl)
theorem dJ5_linkNodeAtEnd_65 : decode cJ5_linkNodeAtEnd 65 = .ok (.aload_n 1, 1) := dk_43 (dk_at dksJ5_linkNodeAtEnd_2 17 rfl rfl)
theorem dJ5_linkNodeAtEnd_66 : decode cJ5_linkNodeAtEnd 66 = .ok (.aload_n 2, 1) := dk_44 (dk_at dksJ5_linkNodeAtEnd_2 18 rfl rfl)
theorem dJ5_linkNodeAtEnd_67 : decode cJ5_linkNodeAtEnd 67 = .ok (.putfield 19, 3) := dk_181 0 19 (dk_at dksJ5_linkNodeAtEnd_2 19 rfl rfl)
theorem dJ5_linkNodeAtEnd_70 : decode cJ5_linkNodeAtEnd 70 = .ok (.aload_n 2, 1) := dk_44 (dk_at dksJ5_linkNodeAtEnd_2 22 rfl rfl)
theorem dJ5_linkNodeAtEnd_71 : decode cJ5_linkNodeAtEnd 71 = .ok (.aload_n 1, 1) := dk_43 (dk_at dksJ5_linkNodeAtEnd_2 23 rfl rfl)
theorem dJ5_linkNodeAtEnd_72 : decode cJ5_linkNodeAtEnd 72 = .ok (.putfield 14, 3) := dk_181 0 14 (dk_at dksJ5_linkNodeAtEnd_3 0 rfl rfl)
theorem dJ5_linkNodeAtEnd_75 : decode cJ5_linkNodeAtEnd 75 = .ok (.return_, 1) := dk_177 (dk_at dksJ5_linkNodeAtEnd_3 3 rfl rfl)
abbrev cJ5_afterNodeAccess : ByteArray := prog_57_method_10_code
def yJ5_afterNodeAccess : MethodName := ⟨RJ5, "afterNodeAccess", "(Ljava/util/HashMap$Node;)V"⟩
def dkwJ5_afterNodeAccess_11 : List UInt8 := [181, 0, 7, 42, 89, 180, 0, 68, 4, 96, 181, 0, 68, 177]
abbrev dktJ5_afterNodeAccess_11 : List UInt8 := dkwJ5_afterNodeAccess_11 ++ []
def dkwJ5_afterNodeAccess_10 : List UInt8 := [25, 4, 181, 0, 11, 167, 0, 15, 25, 4, 45, 181, 0, 14, 45, 25, 4, 181, 0, 19, 42, 25, 4]
abbrev dktJ5_afterNodeAccess_10 : List UInt8 := dkwJ5_afterNodeAccess_10 ++ dktJ5_afterNodeAccess_11
def dkwJ5_afterNodeAccess_9 : List UInt8 := [25, 5, 198, 0, 13, 25, 5, 25, 6, 181, 0, 14, 167, 0, 6, 25, 6, 78, 45, 199, 0, 12, 42]
abbrev dktJ5_afterNodeAccess_9 : List UInt8 := dkwJ5_afterNodeAccess_9 ++ dktJ5_afterNodeAccess_10
def dkwJ5_afterNodeAccess_8 : List UInt8 := [181, 0, 19, 25, 6, 199, 0, 12, 42, 25, 5, 181, 0, 11, 167, 0, 10, 25, 6, 25, 5, 181, 0, 19]
abbrev dktJ5_afterNodeAccess_8 : List UInt8 := dkwJ5_afterNodeAccess_8 ++ dktJ5_afterNodeAccess_9
def dkwJ5_afterNodeAccess_7 : List UInt8 := [43, 192, 0, 15, 58, 4, 25, 4, 180, 0, 19, 58, 5, 25, 4, 180, 0, 14, 58, 6, 25, 4, 1]
abbrev dktJ5_afterNodeAccess_7 : List UInt8 := dkwJ5_afterNodeAccess_7 ++ dktJ5_afterNodeAccess_8
def dkwJ5_afterNodeAccess_6 : List UInt8 := [181, 0, 68, 167, 0, 127, 42, 180, 0, 1, 4, 160, 0, 119, 42, 180, 0, 7, 89, 78, 43, 165, 0, 109]
abbrev dktJ5_afterNodeAccess_6 : List UInt8 := dkwJ5_afterNodeAccess_6 ++ dktJ5_afterNodeAccess_7
def dkwJ5_afterNodeAccess_5 : List UInt8 := [181, 0, 19, 44, 25, 4, 181, 0, 14, 42, 25, 4, 181, 0, 11, 42, 89, 180, 0, 68, 4, 96]
abbrev dktJ5_afterNodeAccess_5 : List UInt8 := dkwJ5_afterNodeAccess_5 ++ dktJ5_afterNodeAccess_6
def dkwJ5_afterNodeAccess_4 : List UInt8 := [167, 0, 6, 25, 5, 77, 44, 199, 0, 12, 42, 25, 4, 181, 0, 7, 167, 0, 15, 25, 4, 44]
abbrev dktJ5_afterNodeAccess_4 : List UInt8 := dkwJ5_afterNodeAccess_4 ++ dktJ5_afterNodeAccess_5
def dkwJ5_afterNodeAccess_3 : List UInt8 := [167, 0, 10, 25, 5, 25, 6, 181, 0, 14, 25, 6, 198, 0, 13, 25, 6, 25, 5, 181, 0, 19]
abbrev dktJ5_afterNodeAccess_3 : List UInt8 := dkwJ5_afterNodeAccess_3 ++ dktJ5_afterNodeAccess_4
def dkwJ5_afterNodeAccess_2 : List UInt8 := [180, 0, 14, 58, 6, 25, 4, 1, 181, 0, 14, 25, 5, 199, 0, 12, 42, 25, 6, 181, 0, 7]
abbrev dktJ5_afterNodeAccess_2 : List UInt8 := dkwJ5_afterNodeAccess_2 ++ dktJ5_afterNodeAccess_3
def dkwJ5_afterNodeAccess_1 : List UInt8 := [180, 0, 11, 89, 77, 43, 165, 0, 112, 43, 192, 0, 15, 58, 4, 25, 4, 180, 0, 19, 58, 5, 25, 4]
abbrev dktJ5_afterNodeAccess_1 : List UInt8 := dkwJ5_afterNodeAccess_1 ++ dktJ5_afterNodeAccess_2
def dkwJ5_afterNodeAccess_0 : List UInt8 := [42, 180, 0, 1, 5, 159, 0, 17, 42, 180, 0, 1, 154, 0, 129, 42, 180, 0, 64, 153, 0, 122, 42]
abbrev dktJ5_afterNodeAccess_0 : List UInt8 := dkwJ5_afterNodeAccess_0 ++ dktJ5_afterNodeAccess_1
theorem dksJ5_afterNodeAccess_0 : cJ5_afterNodeAccess.data.toList.drop 0 = dktJ5_afterNodeAccess_0 := by decide +kernel
theorem dksJ5_afterNodeAccess_1 : cJ5_afterNodeAccess.data.toList.drop 23 = dktJ5_afterNodeAccess_1 := dk_seg dksJ5_afterNodeAccess_0 23 rfl rfl
theorem dksJ5_afterNodeAccess_2 : cJ5_afterNodeAccess.data.toList.drop 47 = dktJ5_afterNodeAccess_2 := dk_seg dksJ5_afterNodeAccess_1 24 rfl rfl
theorem dksJ5_afterNodeAccess_3 : cJ5_afterNodeAccess.data.toList.drop 69 = dktJ5_afterNodeAccess_3 := dk_seg dksJ5_afterNodeAccess_2 22 rfl rfl
theorem dksJ5_afterNodeAccess_4 : cJ5_afterNodeAccess.data.toList.drop 91 = dktJ5_afterNodeAccess_4 := dk_seg dksJ5_afterNodeAccess_3 22 rfl rfl
theorem dksJ5_afterNodeAccess_5 : cJ5_afterNodeAccess.data.toList.drop 113 = dktJ5_afterNodeAccess_5 := dk_seg dksJ5_afterNodeAccess_4 22 rfl rfl
theorem dksJ5_afterNodeAccess_6 : cJ5_afterNodeAccess.data.toList.drop 135 = dktJ5_afterNodeAccess_6 := dk_seg dksJ5_afterNodeAccess_5 22 rfl rfl
theorem dksJ5_afterNodeAccess_7 : cJ5_afterNodeAccess.data.toList.drop 159 = dktJ5_afterNodeAccess_7 := dk_seg dksJ5_afterNodeAccess_6 24 rfl rfl
theorem dksJ5_afterNodeAccess_8 : cJ5_afterNodeAccess.data.toList.drop 182 = dktJ5_afterNodeAccess_8 := dk_seg dksJ5_afterNodeAccess_7 23 rfl rfl
theorem dksJ5_afterNodeAccess_9 : cJ5_afterNodeAccess.data.toList.drop 206 = dktJ5_afterNodeAccess_9 := dk_seg dksJ5_afterNodeAccess_8 24 rfl rfl
theorem dksJ5_afterNodeAccess_10 : cJ5_afterNodeAccess.data.toList.drop 229 = dktJ5_afterNodeAccess_10 := dk_seg dksJ5_afterNodeAccess_9 23 rfl rfl
theorem dksJ5_afterNodeAccess_11 : cJ5_afterNodeAccess.data.toList.drop 252 = dktJ5_afterNodeAccess_11 := dk_seg dksJ5_afterNodeAccess_10 23 rfl rfl
theorem dJ5_afterNodeAccess_0 : decode cJ5_afterNodeAccess 0 = .ok (.aload_n 0, 1) := dk_42 (dk_at dksJ5_afterNodeAccess_0 0 rfl rfl)
theorem dJ5_afterNodeAccess_1 : decode cJ5_afterNodeAccess 1 = .ok (.getfield 1, 3) := dk_180 0 1 (dk_at dksJ5_afterNodeAccess_0 1 rfl rfl)
theorem dJ5_afterNodeAccess_4 : decode cJ5_afterNodeAccess 4 = .ok (.iconst 2, 1) := dk_5 (dk_at dksJ5_afterNodeAccess_0 4 rfl rfl)
theorem dJ5_afterNodeAccess_5 : decode cJ5_afterNodeAccess 5 = .ok (.if_icmp .eq 17, 3) := dk_159 0 17 (dk_at dksJ5_afterNodeAccess_0 5 rfl rfl)
theorem dJ5_afterNodeAccess_8 : decode cJ5_afterNodeAccess 8 = .ok (.aload_n 0, 1) := dk_42 (dk_at dksJ5_afterNodeAccess_0 8 rfl rfl)
theorem dJ5_afterNodeAccess_9 : decode cJ5_afterNodeAccess 9 = .ok (.getfield 1, 3) := dk_180 0 1 (dk_at dksJ5_afterNodeAccess_0 9 rfl rfl)
theorem dJ5_afterNodeAccess_12 : decode cJ5_afterNodeAccess 12 = .ok (.ifCond .ne 129, 3) := dk_154 0 129 (dk_at dksJ5_afterNodeAccess_0 12 rfl rfl)
theorem dJ5_afterNodeAccess_15 : decode cJ5_afterNodeAccess 15 = .ok (.aload_n 0, 1) := dk_42 (dk_at dksJ5_afterNodeAccess_0 15 rfl rfl)
theorem dJ5_afterNodeAccess_16 : decode cJ5_afterNodeAccess 16 = .ok (.getfield 64, 3) := dk_180 0 64 (dk_at dksJ5_afterNodeAccess_0 16 rfl rfl)
theorem dJ5_afterNodeAccess_19 : decode cJ5_afterNodeAccess 19 = .ok (.ifCond .eq 122, 3) := dk_153 0 122 (dk_at dksJ5_afterNodeAccess_0 19 rfl rfl)
theorem dJ5_afterNodeAccess_22 : decode cJ5_afterNodeAccess 22 = .ok (.aload_n 0, 1) := dk_42 (dk_at dksJ5_afterNodeAccess_0 22 rfl rfl)
theorem dJ5_afterNodeAccess_23 : decode cJ5_afterNodeAccess 23 = .ok (.getfield 11, 3) := dk_180 0 11 (dk_at dksJ5_afterNodeAccess_1 0 rfl rfl)
theorem dJ5_afterNodeAccess_26 : decode cJ5_afterNodeAccess 26 = .ok (.dup, 1) := dk_89 (dk_at dksJ5_afterNodeAccess_1 3 rfl rfl)
theorem dJ5_afterNodeAccess_27 : decode cJ5_afterNodeAccess 27 = .ok (.astore_n 2, 1) := dk_77 (dk_at dksJ5_afterNodeAccess_1 4 rfl rfl)
theorem dJ5_afterNodeAccess_28 : decode cJ5_afterNodeAccess 28 = .ok (.aload_n 1, 1) := dk_43 (dk_at dksJ5_afterNodeAccess_1 5 rfl rfl)
theorem dJ5_afterNodeAccess_29 : decode cJ5_afterNodeAccess 29 = .ok (.if_acmp .eq 112, 3) := dk_165 0 112 (dk_at dksJ5_afterNodeAccess_1 6 rfl rfl)
theorem dJ5_afterNodeAccess_32 : decode cJ5_afterNodeAccess 32 = .ok (.aload_n 1, 1) := dk_43 (dk_at dksJ5_afterNodeAccess_1 9 rfl rfl)
theorem dJ5_afterNodeAccess_33 : decode cJ5_afterNodeAccess 33 = .ok (.checkcast 15, 3) := dk_192 0 15 (dk_at dksJ5_afterNodeAccess_1 10 rfl rfl)
theorem dJ5_afterNodeAccess_36 : decode cJ5_afterNodeAccess 36 = .ok (.astore 4, 2) := dk_58 4 (dk_at dksJ5_afterNodeAccess_1 13 rfl rfl)
theorem dJ5_afterNodeAccess_38 : decode cJ5_afterNodeAccess 38 = .ok (.aload 4, 2) := dk_25 4 (dk_at dksJ5_afterNodeAccess_1 15 rfl rfl)
theorem dJ5_afterNodeAccess_40 : decode cJ5_afterNodeAccess 40 = .ok (.getfield 19, 3) := dk_180 0 19 (dk_at dksJ5_afterNodeAccess_1 17 rfl rfl)
theorem dJ5_afterNodeAccess_43 : decode cJ5_afterNodeAccess 43 = .ok (.astore 5, 2) := dk_58 5 (dk_at dksJ5_afterNodeAccess_1 20 rfl rfl)
theorem dJ5_afterNodeAccess_45 : decode cJ5_afterNodeAccess 45 = .ok (.aload 4, 2) := dk_25 4 (dk_at dksJ5_afterNodeAccess_1 22 rfl rfl)
theorem dJ5_afterNodeAccess_47 : decode cJ5_afterNodeAccess 47 = .ok (.getfield 14, 3) := dk_180 0 14 (dk_at dksJ5_afterNodeAccess_2 0 rfl rfl)
theorem dJ5_afterNodeAccess_50 : decode cJ5_afterNodeAccess 50 = .ok (.astore 6, 2) := dk_58 6 (dk_at dksJ5_afterNodeAccess_2 3 rfl rfl)
theorem dJ5_afterNodeAccess_52 : decode cJ5_afterNodeAccess 52 = .ok (.aload 4, 2) := dk_25 4 (dk_at dksJ5_afterNodeAccess_2 5 rfl rfl)
theorem dJ5_afterNodeAccess_54 : decode cJ5_afterNodeAccess 54 = .ok (.aconst_null, 1) := dk_1 (dk_at dksJ5_afterNodeAccess_2 7 rfl rfl)
theorem dJ5_afterNodeAccess_55 : decode cJ5_afterNodeAccess 55 = .ok (.putfield 14, 3) := dk_181 0 14 (dk_at dksJ5_afterNodeAccess_2 8 rfl rfl)
theorem dJ5_afterNodeAccess_58 : decode cJ5_afterNodeAccess 58 = .ok (.aload 5, 2) := dk_25 5 (dk_at dksJ5_afterNodeAccess_2 11 rfl rfl)
theorem dJ5_afterNodeAccess_60 : decode cJ5_afterNodeAccess 60 = .ok (.ifnonnull 12, 3) := dk_199 0 12 (dk_at dksJ5_afterNodeAccess_2 13 rfl rfl)
theorem dJ5_afterNodeAccess_63 : decode cJ5_afterNodeAccess 63 = .ok (.aload_n 0, 1) := dk_42 (dk_at dksJ5_afterNodeAccess_2 16 rfl rfl)
theorem dJ5_afterNodeAccess_64 : decode cJ5_afterNodeAccess 64 = .ok (.aload 6, 2) := dk_25 6 (dk_at dksJ5_afterNodeAccess_2 17 rfl rfl)
theorem dJ5_afterNodeAccess_66 : decode cJ5_afterNodeAccess 66 = .ok (.putfield 7, 3) := dk_181 0 7 (dk_at dksJ5_afterNodeAccess_2 19 rfl rfl)
theorem dJ5_afterNodeAccess_69 : decode cJ5_afterNodeAccess 69 = .ok (.goto 10, 3) := dk_167 0 10 (dk_at dksJ5_afterNodeAccess_3 0 rfl rfl)
theorem dJ5_afterNodeAccess_72 : decode cJ5_afterNodeAccess 72 = .ok (.aload 5, 2) := dk_25 5 (dk_at dksJ5_afterNodeAccess_3 3 rfl rfl)
theorem dJ5_afterNodeAccess_74 : decode cJ5_afterNodeAccess 74 = .ok (.aload 6, 2) := dk_25 6 (dk_at dksJ5_afterNodeAccess_3 5 rfl rfl)
theorem dJ5_afterNodeAccess_76 : decode cJ5_afterNodeAccess 76 = .ok (.putfield 14, 3) := dk_181 0 14 (dk_at dksJ5_afterNodeAccess_3 7 rfl rfl)
theorem dJ5_afterNodeAccess_79 : decode cJ5_afterNodeAccess 79 = .ok (.aload 6, 2) := dk_25 6 (dk_at dksJ5_afterNodeAccess_3 10 rfl rfl)
theorem dJ5_afterNodeAccess_81 : decode cJ5_afterNodeAccess 81 = .ok (.ifnull 13, 3) := dk_198 0 13 (dk_at dksJ5_afterNodeAccess_3 12 rfl rfl)
theorem dJ5_afterNodeAccess_84 : decode cJ5_afterNodeAccess 84 = .ok (.aload 6, 2) := dk_25 6 (dk_at dksJ5_afterNodeAccess_3 15 rfl rfl)
theorem dJ5_afterNodeAccess_86 : decode cJ5_afterNodeAccess 86 = .ok (.aload 5, 2) := dk_25 5 (dk_at dksJ5_afterNodeAccess_3 17 rfl rfl)
theorem dJ5_afterNodeAccess_88 : decode cJ5_afterNodeAccess 88 = .ok (.putfield 19, 3) := dk_181 0 19 (dk_at dksJ5_afterNodeAccess_3 19 rfl rfl)
theorem dJ5_afterNodeAccess_91 : decode cJ5_afterNodeAccess 91 = .ok (.goto 6, 3) := dk_167 0 6 (dk_at dksJ5_afterNodeAccess_4 0 rfl rfl)
theorem dJ5_afterNodeAccess_94 : decode cJ5_afterNodeAccess 94 = .ok (.aload 5, 2) := dk_25 5 (dk_at dksJ5_afterNodeAccess_4 3 rfl rfl)
theorem dJ5_afterNodeAccess_96 : decode cJ5_afterNodeAccess 96 = .ok (.astore_n 2, 1) := dk_77 (dk_at dksJ5_afterNodeAccess_4 5 rfl rfl)
theorem dJ5_afterNodeAccess_97 : decode cJ5_afterNodeAccess 97 = .ok (.aload_n 2, 1) := dk_44 (dk_at dksJ5_afterNodeAccess_4 6 rfl rfl)
theorem dJ5_afterNodeAccess_98 : decode cJ5_afterNodeAccess 98 = .ok (.ifnonnull 12, 3) := dk_199 0 12 (dk_at dksJ5_afterNodeAccess_4 7 rfl rfl)
theorem dJ5_afterNodeAccess_101 : decode cJ5_afterNodeAccess 101 = .ok (.aload_n 0, 1) := dk_42 (dk_at dksJ5_afterNodeAccess_4 10 rfl rfl)
theorem dJ5_afterNodeAccess_102 : decode cJ5_afterNodeAccess 102 = .ok (.aload 4, 2) := dk_25 4 (dk_at dksJ5_afterNodeAccess_4 11 rfl rfl)
theorem dJ5_afterNodeAccess_104 : decode cJ5_afterNodeAccess 104 = .ok (.putfield 7, 3) := dk_181 0 7 (dk_at dksJ5_afterNodeAccess_4 13 rfl rfl)
theorem dJ5_afterNodeAccess_107 : decode cJ5_afterNodeAccess 107 = .ok (.goto 15, 3) := dk_167 0 15 (dk_at dksJ5_afterNodeAccess_4 16 rfl rfl)
theorem dJ5_afterNodeAccess_110 : decode cJ5_afterNodeAccess 110 = .ok (.aload 4, 2) := dk_25 4 (dk_at dksJ5_afterNodeAccess_4 19 rfl rfl)
theorem dJ5_afterNodeAccess_112 : decode cJ5_afterNodeAccess 112 = .ok (.aload_n 2, 1) := dk_44 (dk_at dksJ5_afterNodeAccess_4 21 rfl rfl)
theorem dJ5_afterNodeAccess_113 : decode cJ5_afterNodeAccess 113 = .ok (.putfield 19, 3) := dk_181 0 19 (dk_at dksJ5_afterNodeAccess_5 0 rfl rfl)
theorem dJ5_afterNodeAccess_116 : decode cJ5_afterNodeAccess 116 = .ok (.aload_n 2, 1) := dk_44 (dk_at dksJ5_afterNodeAccess_5 3 rfl rfl)
theorem dJ5_afterNodeAccess_117 : decode cJ5_afterNodeAccess 117 = .ok (.aload 4, 2) := dk_25 4 (dk_at dksJ5_afterNodeAccess_5 4 rfl rfl)
theorem dJ5_afterNodeAccess_119 : decode cJ5_afterNodeAccess 119 = .ok (.putfield 14, 3) := dk_181 0 14 (dk_at dksJ5_afterNodeAccess_5 6 rfl rfl)
theorem dJ5_afterNodeAccess_122 : decode cJ5_afterNodeAccess 122 = .ok (.aload_n 0, 1) := dk_42 (dk_at dksJ5_afterNodeAccess_5 9 rfl rfl)
theorem dJ5_afterNodeAccess_123 : decode cJ5_afterNodeAccess 123 = .ok (.aload 4, 2) := dk_25 4 (dk_at dksJ5_afterNodeAccess_5 10 rfl rfl)
theorem dJ5_afterNodeAccess_125 : decode cJ5_afterNodeAccess 125 = .ok (.putfield 11, 3) := dk_181 0 11 (dk_at dksJ5_afterNodeAccess_5 12 rfl rfl)
theorem dJ5_afterNodeAccess_128 : decode cJ5_afterNodeAccess 128 = .ok (.aload_n 0, 1) := dk_42 (dk_at dksJ5_afterNodeAccess_5 15 rfl rfl)
theorem dJ5_afterNodeAccess_129 : decode cJ5_afterNodeAccess 129 = .ok (.dup, 1) := dk_89 (dk_at dksJ5_afterNodeAccess_5 16 rfl rfl)
theorem dJ5_afterNodeAccess_130 : decode cJ5_afterNodeAccess 130 = .ok (.getfield 68, 3) := dk_180 0 68 (dk_at dksJ5_afterNodeAccess_5 17 rfl rfl)
theorem dJ5_afterNodeAccess_133 : decode cJ5_afterNodeAccess 133 = .ok (.iconst 1, 1) := dk_4 (dk_at dksJ5_afterNodeAccess_5 20 rfl rfl)
theorem dJ5_afterNodeAccess_134 : decode cJ5_afterNodeAccess 134 = .ok (.iadd, 1) := dk_96 (dk_at dksJ5_afterNodeAccess_5 21 rfl rfl)
theorem dJ5_afterNodeAccess_135 : decode cJ5_afterNodeAccess 135 = .ok (.putfield 68, 3) := dk_181 0 68 (dk_at dksJ5_afterNodeAccess_6 0 rfl rfl)
theorem dJ5_afterNodeAccess_138 : decode cJ5_afterNodeAccess 138 = .ok (.goto 127, 3) := dk_167 0 127 (dk_at dksJ5_afterNodeAccess_6 3 rfl rfl)
theorem dJ5_afterNodeAccess_141 : decode cJ5_afterNodeAccess 141 = .ok (.aload_n 0, 1) := dk_42 (dk_at dksJ5_afterNodeAccess_6 6 rfl rfl)
theorem dJ5_afterNodeAccess_142 : decode cJ5_afterNodeAccess 142 = .ok (.getfield 1, 3) := dk_180 0 1 (dk_at dksJ5_afterNodeAccess_6 7 rfl rfl)
theorem dJ5_afterNodeAccess_145 : decode cJ5_afterNodeAccess 145 = .ok (.iconst 1, 1) := dk_4 (dk_at dksJ5_afterNodeAccess_6 10 rfl rfl)
theorem dJ5_afterNodeAccess_146 : decode cJ5_afterNodeAccess 146 = .ok (.if_icmp .ne 119, 3) := dk_160 0 119 (dk_at dksJ5_afterNodeAccess_6 11 rfl rfl)
theorem dJ5_afterNodeAccess_149 : decode cJ5_afterNodeAccess 149 = .ok (.aload_n 0, 1) := dk_42 (dk_at dksJ5_afterNodeAccess_6 14 rfl rfl)
theorem dJ5_afterNodeAccess_150 : decode cJ5_afterNodeAccess 150 = .ok (.getfield 7, 3) := dk_180 0 7 (dk_at dksJ5_afterNodeAccess_6 15 rfl rfl)
theorem dJ5_afterNodeAccess_153 : decode cJ5_afterNodeAccess 153 = .ok (.dup, 1) := dk_89 (dk_at dksJ5_afterNodeAccess_6 18 rfl rfl)
theorem dJ5_afterNodeAccess_154 : decode cJ5_afterNodeAccess 154 = .ok (.astore_n 3, 1) := dk_78 (dk_at dksJ5_afterNodeAccess_6 19 rfl rfl)
theorem dJ5_afterNodeAccess_155 : decode cJ5_afterNodeAccess 155 = .ok (.aload_n 1, 1) := dk_43 (dk_at dksJ5_afterNodeAccess_6 20 rfl rfl)
theorem dJ5_afterNodeAccess_156 : decode cJ5_afterNodeAccess 156 = .ok (.if_acmp .eq 109, 3) := dk_165 0 109 (dk_at dksJ5_afterNodeAccess_6 21 rfl rfl)
theorem dJ5_afterNodeAccess_159 : decode cJ5_afterNodeAccess 159 = .ok (.aload_n 1, 1) := dk_43 (dk_at dksJ5_afterNodeAccess_7 0 rfl rfl)
theorem dJ5_afterNodeAccess_160 : decode cJ5_afterNodeAccess 160 = .ok (.checkcast 15, 3) := dk_192 0 15 (dk_at dksJ5_afterNodeAccess_7 1 rfl rfl)
theorem dJ5_afterNodeAccess_163 : decode cJ5_afterNodeAccess 163 = .ok (.astore 4, 2) := dk_58 4 (dk_at dksJ5_afterNodeAccess_7 4 rfl rfl)
theorem dJ5_afterNodeAccess_165 : decode cJ5_afterNodeAccess 165 = .ok (.aload 4, 2) := dk_25 4 (dk_at dksJ5_afterNodeAccess_7 6 rfl rfl)
theorem dJ5_afterNodeAccess_167 : decode cJ5_afterNodeAccess 167 = .ok (.getfield 19, 3) := dk_180 0 19 (dk_at dksJ5_afterNodeAccess_7 8 rfl rfl)
theorem dJ5_afterNodeAccess_170 : decode cJ5_afterNodeAccess 170 = .ok (.astore 5, 2) := dk_58 5 (dk_at dksJ5_afterNodeAccess_7 11 rfl rfl)
theorem dJ5_afterNodeAccess_172 : decode cJ5_afterNodeAccess 172 = .ok (.aload 4, 2) := dk_25 4 (dk_at dksJ5_afterNodeAccess_7 13 rfl rfl)
theorem dJ5_afterNodeAccess_174 : decode cJ5_afterNodeAccess 174 = .ok (.getfield 14, 3) := dk_180 0 14 (dk_at dksJ5_afterNodeAccess_7 15 rfl rfl)
theorem dJ5_afterNodeAccess_177 : decode cJ5_afterNodeAccess 177 = .ok (.astore 6, 2) := dk_58 6 (dk_at dksJ5_afterNodeAccess_7 18 rfl rfl)
theorem dJ5_afterNodeAccess_179 : decode cJ5_afterNodeAccess 179 = .ok (.aload 4, 2) := dk_25 4 (dk_at dksJ5_afterNodeAccess_7 20 rfl rfl)
theorem dJ5_afterNodeAccess_181 : decode cJ5_afterNodeAccess 181 = .ok (.aconst_null, 1) := dk_1 (dk_at dksJ5_afterNodeAccess_7 22 rfl rfl)
theorem dJ5_afterNodeAccess_182 : decode cJ5_afterNodeAccess 182 = .ok (.putfield 19, 3) := dk_181 0 19 (dk_at dksJ5_afterNodeAccess_8 0 rfl rfl)
theorem dJ5_afterNodeAccess_185 : decode cJ5_afterNodeAccess 185 = .ok (.aload 6, 2) := dk_25 6 (dk_at dksJ5_afterNodeAccess_8 3 rfl rfl)
theorem dJ5_afterNodeAccess_187 : decode cJ5_afterNodeAccess 187 = .ok (.ifnonnull 12, 3) := dk_199 0 12 (dk_at dksJ5_afterNodeAccess_8 5 rfl rfl)
theorem dJ5_afterNodeAccess_190 : decode cJ5_afterNodeAccess 190 = .ok (.aload_n 0, 1) := dk_42 (dk_at dksJ5_afterNodeAccess_8 8 rfl rfl)
theorem dJ5_afterNodeAccess_191 : decode cJ5_afterNodeAccess 191 = .ok (.aload 5, 2) := dk_25 5 (dk_at dksJ5_afterNodeAccess_8 9 rfl rfl)
theorem dJ5_afterNodeAccess_193 : decode cJ5_afterNodeAccess 193 = .ok (.putfield 11, 3) := dk_181 0 11 (dk_at dksJ5_afterNodeAccess_8 11 rfl rfl)
theorem dJ5_afterNodeAccess_196 : decode cJ5_afterNodeAccess 196 = .ok (.goto 10, 3) := dk_167 0 10 (dk_at dksJ5_afterNodeAccess_8 14 rfl rfl)
theorem dJ5_afterNodeAccess_199 : decode cJ5_afterNodeAccess 199 = .ok (.aload 6, 2) := dk_25 6 (dk_at dksJ5_afterNodeAccess_8 17 rfl rfl)
theorem dJ5_afterNodeAccess_201 : decode cJ5_afterNodeAccess 201 = .ok (.aload 5, 2) := dk_25 5 (dk_at dksJ5_afterNodeAccess_8 19 rfl rfl)
theorem dJ5_afterNodeAccess_203 : decode cJ5_afterNodeAccess 203 = .ok (.putfield 19, 3) := dk_181 0 19 (dk_at dksJ5_afterNodeAccess_8 21 rfl rfl)
theorem dJ5_afterNodeAccess_206 : decode cJ5_afterNodeAccess 206 = .ok (.aload 5, 2) := dk_25 5 (dk_at dksJ5_afterNodeAccess_9 0 rfl rfl)
theorem dJ5_afterNodeAccess_208 : decode cJ5_afterNodeAccess 208 = .ok (.ifnull 13, 3) := dk_198 0 13 (dk_at dksJ5_afterNodeAccess_9 2 rfl rfl)
theorem dJ5_afterNodeAccess_211 : decode cJ5_afterNodeAccess 211 = .ok (.aload 5, 2) := dk_25 5 (dk_at dksJ5_afterNodeAccess_9 5 rfl rfl)
theorem dJ5_afterNodeAccess_213 : decode cJ5_afterNodeAccess 213 = .ok (.aload 6, 2) := dk_25 6 (dk_at dksJ5_afterNodeAccess_9 7 rfl rfl)
theorem dJ5_afterNodeAccess_215 : decode cJ5_afterNodeAccess 215 = .ok (.putfield 14, 3) := dk_181 0 14 (dk_at dksJ5_afterNodeAccess_9 9 rfl rfl)
theorem dJ5_afterNodeAccess_218 : decode cJ5_afterNodeAccess 218 = .ok (.goto 6, 3) := dk_167 0 6 (dk_at dksJ5_afterNodeAccess_9 12 rfl rfl)
theorem dJ5_afterNodeAccess_221 : decode cJ5_afterNodeAccess 221 = .ok (.aload 6, 2) := dk_25 6 (dk_at dksJ5_afterNodeAccess_9 15 rfl rfl)
theorem dJ5_afterNodeAccess_223 : decode cJ5_afterNodeAccess 223 = .ok (.astore_n 3, 1) := dk_78 (dk_at dksJ5_afterNodeAccess_9 17 rfl rfl)
theorem dJ5_afterNodeAccess_224 : decode cJ5_afterNodeAccess 224 = .ok (.aload_n 3, 1) := dk_45 (dk_at dksJ5_afterNodeAccess_9 18 rfl rfl)
theorem dJ5_afterNodeAccess_225 : decode cJ5_afterNodeAccess 225 = .ok (.ifnonnull 12, 3) := dk_199 0 12 (dk_at dksJ5_afterNodeAccess_9 19 rfl rfl)
theorem dJ5_afterNodeAccess_228 : decode cJ5_afterNodeAccess 228 = .ok (.aload_n 0, 1) := dk_42 (dk_at dksJ5_afterNodeAccess_9 22 rfl rfl)
theorem dJ5_afterNodeAccess_229 : decode cJ5_afterNodeAccess 229 = .ok (.aload 4, 2) := dk_25 4 (dk_at dksJ5_afterNodeAccess_10 0 rfl rfl)
theorem dJ5_afterNodeAccess_231 : decode cJ5_afterNodeAccess 231 = .ok (.putfield 11, 3) := dk_181 0 11 (dk_at dksJ5_afterNodeAccess_10 2 rfl rfl)
theorem dJ5_afterNodeAccess_234 : decode cJ5_afterNodeAccess 234 = .ok (.goto 15, 3) := dk_167 0 15 (dk_at dksJ5_afterNodeAccess_10 5 rfl rfl)
theorem dJ5_afterNodeAccess_237 : decode cJ5_afterNodeAccess 237 = .ok (.aload 4, 2) := dk_25 4 (dk_at dksJ5_afterNodeAccess_10 8 rfl rfl)
theorem dJ5_afterNodeAccess_239 : decode cJ5_afterNodeAccess 239 = .ok (.aload_n 3, 1) := dk_45 (dk_at dksJ5_afterNodeAccess_10 10 rfl rfl)
theorem dJ5_afterNodeAccess_240 : decode cJ5_afterNodeAccess 240 = .ok (.putfield 14, 3) := dk_181 0 14 (dk_at dksJ5_afterNodeAccess_10 11 rfl rfl)
theorem dJ5_afterNodeAccess_243 : decode cJ5_afterNodeAccess 243 = .ok (.aload_n 3, 1) := dk_45 (dk_at dksJ5_afterNodeAccess_10 14 rfl rfl)
theorem dJ5_afterNodeAccess_244 : decode cJ5_afterNodeAccess 244 = .ok (.aload 4, 2) := dk_25 4 (dk_at dksJ5_afterNodeAccess_10 15 rfl rfl)
theorem dJ5_afterNodeAccess_246 : decode cJ5_afterNodeAccess 246 = .ok (.putfield 19, 3) := dk_181 0 19 (dk_at dksJ5_afterNodeAccess_10 17 rfl rfl)
theorem dJ5_afterNodeAccess_249 : decode cJ5_afterNodeAccess 249 = .ok (.aload_n 0, 1) := dk_42 (dk_at dksJ5_afterNodeAccess_10 20 rfl rfl)
theorem dJ5_afterNodeAccess_250 : decode cJ5_afterNodeAccess 250 = .ok (.aload 4, 2) := dk_25 4 (dk_at dksJ5_afterNodeAccess_10 21 rfl rfl)
theorem dJ5_afterNodeAccess_252 : decode cJ5_afterNodeAccess 252 = .ok (.putfield 7, 3) := dk_181 0 7 (dk_at dksJ5_afterNodeAccess_11 0 rfl rfl)
theorem dJ5_afterNodeAccess_255 : decode cJ5_afterNodeAccess 255 = .ok (.aload_n 0, 1) := dk_42 (dk_at dksJ5_afterNodeAccess_11 3 rfl rfl)
theorem dJ5_afterNodeAccess_256 : decode cJ5_afterNodeAccess 256 = .ok (.dup, 1) := dk_89 (dk_at dksJ5_afterNodeAccess_11 4 rfl rfl)
theorem dJ5_afterNodeAccess_257 : decode cJ5_afterNodeAccess 257 = .ok (.getfield 68, 3) := dk_180 0 68 (dk_at dksJ5_afterNodeAccess_11 5 rfl rfl)
theorem dJ5_afterNodeAccess_260 : decode cJ5_afterNodeAccess 260 = .ok (.iconst 1, 1) := dk_4 (dk_at dksJ5_afterNodeAccess_11 8 rfl rfl)
theorem dJ5_afterNodeAccess_261 : decode cJ5_afterNodeAccess 261 = .ok (.iadd, 1) := dk_96 (dk_at dksJ5_afterNodeAccess_11 9 rfl rfl)
theorem dJ5_afterNodeAccess_262 : decode cJ5_afterNodeAccess 262 = .ok (.putfield 68, 3) := dk_181 0 68 (dk_at dksJ5_afterNodeAccess_11 10 rfl rfl)
theorem dJ5_afterNodeAccess_265 : decode cJ5_afterNodeAccess 265 = .ok (.return_, 1) := dk_177 (dk_at dksJ5_afterNodeAccess_11 13 rfl rfl)
abbrev cJ5_afterNodeInsertion : ByteArray := prog_57_method_9_code
def yJ5_afterNodeInsertion : MethodName := ⟨RJ5, "afterNodeInsertion", "(Z)V"⟩
def dkwJ5_afterNodeInsertion_1 : List UInt8 := [180, 0, 39, 78, 42, 45, 184, 0, 57, 45, 1, 3, 4, 182, 0, 60, 87, 177]
abbrev dktJ5_afterNodeInsertion_1 : List UInt8 := dkwJ5_afterNodeInsertion_1 ++ []
def dkwJ5_afterNodeInsertion_0 : List UInt8 := [27, 153, 0, 38, 42, 180, 0, 7, 89, 77, 198, 0, 29, 42, 44, 182, 0, 53, 153, 0, 21, 44]
abbrev dktJ5_afterNodeInsertion_0 : List UInt8 := dkwJ5_afterNodeInsertion_0 ++ dktJ5_afterNodeInsertion_1
theorem dksJ5_afterNodeInsertion_0 : cJ5_afterNodeInsertion.data.toList.drop 0 = dktJ5_afterNodeInsertion_0 := by decide +kernel
theorem dksJ5_afterNodeInsertion_1 : cJ5_afterNodeInsertion.data.toList.drop 22 = dktJ5_afterNodeInsertion_1 := dk_seg dksJ5_afterNodeInsertion_0 22 rfl rfl
theorem dJ5_afterNodeInsertion_0 : decode cJ5_afterNodeInsertion 0 = .ok (.iload_n 1, 1) := dk_27 (dk_at dksJ5_afterNodeInsertion_0 0 rfl rfl)
theorem dJ5_afterNodeInsertion_1 : decode cJ5_afterNodeInsertion 1 = .ok (.ifCond .eq 38, 3) := dk_153 0 38 (dk_at dksJ5_afterNodeInsertion_0 1 rfl rfl)
theorem dJ5_afterNodeInsertion_4 : decode cJ5_afterNodeInsertion 4 = .ok (.aload_n 0, 1) := dk_42 (dk_at dksJ5_afterNodeInsertion_0 4 rfl rfl)
theorem dJ5_afterNodeInsertion_5 : decode cJ5_afterNodeInsertion 5 = .ok (.getfield 7, 3) := dk_180 0 7 (dk_at dksJ5_afterNodeInsertion_0 5 rfl rfl)
theorem dJ5_afterNodeInsertion_8 : decode cJ5_afterNodeInsertion 8 = .ok (.dup, 1) := dk_89 (dk_at dksJ5_afterNodeInsertion_0 8 rfl rfl)
theorem dJ5_afterNodeInsertion_9 : decode cJ5_afterNodeInsertion 9 = .ok (.astore_n 2, 1) := dk_77 (dk_at dksJ5_afterNodeInsertion_0 9 rfl rfl)
theorem dJ5_afterNodeInsertion_10 : decode cJ5_afterNodeInsertion 10 = .ok (.ifnull 29, 3) := dk_198 0 29 (dk_at dksJ5_afterNodeInsertion_0 10 rfl rfl)
theorem dJ5_afterNodeInsertion_13 : decode cJ5_afterNodeInsertion 13 = .ok (.aload_n 0, 1) := dk_42 (dk_at dksJ5_afterNodeInsertion_0 13 rfl rfl)
theorem dJ5_afterNodeInsertion_14 : decode cJ5_afterNodeInsertion 14 = .ok (.aload_n 2, 1) := dk_44 (dk_at dksJ5_afterNodeInsertion_0 14 rfl rfl)
theorem dJ5_afterNodeInsertion_15 : decode cJ5_afterNodeInsertion 15 = .ok (.invokevirtual 53, 3) := dk_182 0 53 (dk_at dksJ5_afterNodeInsertion_0 15 rfl rfl)
theorem dJ5_afterNodeInsertion_18 : decode cJ5_afterNodeInsertion 18 = .ok (.ifCond .eq 21, 3) := dk_153 0 21 (dk_at dksJ5_afterNodeInsertion_0 18 rfl rfl)
theorem dJ5_afterNodeInsertion_21 : decode cJ5_afterNodeInsertion 21 = .ok (.aload_n 2, 1) := dk_44 (dk_at dksJ5_afterNodeInsertion_0 21 rfl rfl)
theorem dJ5_afterNodeInsertion_22 : decode cJ5_afterNodeInsertion 22 = .ok (.getfield 39, 3) := dk_180 0 39 (dk_at dksJ5_afterNodeInsertion_1 0 rfl rfl)
theorem dJ5_afterNodeInsertion_25 : decode cJ5_afterNodeInsertion 25 = .ok (.astore_n 3, 1) := dk_78 (dk_at dksJ5_afterNodeInsertion_1 3 rfl rfl)
theorem dJ5_afterNodeInsertion_26 : decode cJ5_afterNodeInsertion 26 = .ok (.aload_n 0, 1) := dk_42 (dk_at dksJ5_afterNodeInsertion_1 4 rfl rfl)
theorem dJ5_afterNodeInsertion_27 : decode cJ5_afterNodeInsertion 27 = .ok (.aload_n 3, 1) := dk_45 (dk_at dksJ5_afterNodeInsertion_1 5 rfl rfl)
theorem dJ5_afterNodeInsertion_28 : decode cJ5_afterNodeInsertion 28 = .ok (.invokestatic 57, 3) := dk_184 0 57 (dk_at dksJ5_afterNodeInsertion_1 6 rfl rfl)
theorem dJ5_afterNodeInsertion_31 : decode cJ5_afterNodeInsertion 31 = .ok (.aload_n 3, 1) := dk_45 (dk_at dksJ5_afterNodeInsertion_1 9 rfl rfl)
theorem dJ5_afterNodeInsertion_32 : decode cJ5_afterNodeInsertion 32 = .ok (.aconst_null, 1) := dk_1 (dk_at dksJ5_afterNodeInsertion_1 10 rfl rfl)
theorem dJ5_afterNodeInsertion_33 : decode cJ5_afterNodeInsertion 33 = .ok (.iconst 0, 1) := dk_3 (dk_at dksJ5_afterNodeInsertion_1 11 rfl rfl)
theorem dJ5_afterNodeInsertion_34 : decode cJ5_afterNodeInsertion 34 = .ok (.iconst 1, 1) := dk_4 (dk_at dksJ5_afterNodeInsertion_1 12 rfl rfl)
theorem dJ5_afterNodeInsertion_35 : decode cJ5_afterNodeInsertion 35 = .ok (.invokevirtual 60, 3) := dk_182 0 60 (dk_at dksJ5_afterNodeInsertion_1 13 rfl rfl)
theorem dJ5_afterNodeInsertion_38 : decode cJ5_afterNodeInsertion 38 = .ok (.pop, 1) := dk_87 (dk_at dksJ5_afterNodeInsertion_1 16 rfl rfl)
theorem dJ5_afterNodeInsertion_39 : decode cJ5_afterNodeInsertion 39 = .ok (.return_, 1) := dk_177 (dk_at dksJ5_afterNodeInsertion_1 17 rfl rfl)
abbrev cJ5_removeEldestEntry : ByteArray := prog_57_method_23_code
def yJ5_removeEldestEntry : MethodName := ⟨RJ5, "removeEldestEntry", "(Ljava/util/Map$Entry;)Z"⟩
theorem dJ5_removeEldestEntry_0 : decode cJ5_removeEldestEntry 0 = .ok (.iconst 0, 1) := by decide +kernel
theorem dJ5_removeEldestEntry_1 : decode cJ5_removeEldestEntry 1 = .ok (.ireturn, 1) := by decide +kernel
abbrev cJ5_afterNodeRemoval : ByteArray := prog_57_method_8_code
def yJ5_afterNodeRemoval : MethodName := ⟨RJ5, "afterNodeRemoval", "(Ljava/util/HashMap$Node;)V"⟩
def dkwJ5_afterNodeRemoval_2 : List UInt8 := [199, 0, 11, 42, 45, 181, 0, 11, 167, 0, 9, 25, 4, 45, 181, 0, 19, 177]
abbrev dktJ5_afterNodeRemoval_2 : List UInt8 := dkwJ5_afterNodeRemoval_2 ++ []
def dkwJ5_afterNodeRemoval_1 : List UInt8 := [181, 0, 19, 45, 199, 0, 12, 42, 25, 4, 181, 0, 7, 167, 0, 9, 45, 25, 4, 181, 0, 14, 25, 4]
abbrev dktJ5_afterNodeRemoval_1 : List UInt8 := dkwJ5_afterNodeRemoval_1 ++ dktJ5_afterNodeRemoval_2
def dkwJ5_afterNodeRemoval_0 : List UInt8 := [43, 192, 0, 15, 77, 44, 180, 0, 19, 78, 44, 180, 0, 14, 58, 4, 44, 44, 1, 90, 181, 0, 14]
abbrev dktJ5_afterNodeRemoval_0 : List UInt8 := dkwJ5_afterNodeRemoval_0 ++ dktJ5_afterNodeRemoval_1
theorem dksJ5_afterNodeRemoval_0 : cJ5_afterNodeRemoval.data.toList.drop 0 = dktJ5_afterNodeRemoval_0 := by decide +kernel
theorem dksJ5_afterNodeRemoval_1 : cJ5_afterNodeRemoval.data.toList.drop 23 = dktJ5_afterNodeRemoval_1 := dk_seg dksJ5_afterNodeRemoval_0 23 rfl rfl
theorem dksJ5_afterNodeRemoval_2 : cJ5_afterNodeRemoval.data.toList.drop 47 = dktJ5_afterNodeRemoval_2 := dk_seg dksJ5_afterNodeRemoval_1 24 rfl rfl
theorem dJ5_afterNodeRemoval_0 : decode cJ5_afterNodeRemoval 0 = .ok (.aload_n 1, 1) := dk_43 (dk_at dksJ5_afterNodeRemoval_0 0 rfl rfl)
theorem dJ5_afterNodeRemoval_1 : decode cJ5_afterNodeRemoval 1 = .ok (.checkcast 15, 3) := dk_192 0 15 (dk_at dksJ5_afterNodeRemoval_0 1 rfl rfl)
theorem dJ5_afterNodeRemoval_4 : decode cJ5_afterNodeRemoval 4 = .ok (.astore_n 2, 1) := dk_77 (dk_at dksJ5_afterNodeRemoval_0 4 rfl rfl)
theorem dJ5_afterNodeRemoval_5 : decode cJ5_afterNodeRemoval 5 = .ok (.aload_n 2, 1) := dk_44 (dk_at dksJ5_afterNodeRemoval_0 5 rfl rfl)
theorem dJ5_afterNodeRemoval_6 : decode cJ5_afterNodeRemoval 6 = .ok (.getfield 19, 3) := dk_180 0 19 (dk_at dksJ5_afterNodeRemoval_0 6 rfl rfl)
theorem dJ5_afterNodeRemoval_9 : decode cJ5_afterNodeRemoval 9 = .ok (.astore_n 3, 1) := dk_78 (dk_at dksJ5_afterNodeRemoval_0 9 rfl rfl)
theorem dJ5_afterNodeRemoval_10 : decode cJ5_afterNodeRemoval 10 = .ok (.aload_n 2, 1) := dk_44 (dk_at dksJ5_afterNodeRemoval_0 10 rfl rfl)
theorem dJ5_afterNodeRemoval_11 : decode cJ5_afterNodeRemoval 11 = .ok (.getfield 14, 3) := dk_180 0 14 (dk_at dksJ5_afterNodeRemoval_0 11 rfl rfl)
theorem dJ5_afterNodeRemoval_14 : decode cJ5_afterNodeRemoval 14 = .ok (.astore 4, 2) := dk_58 4 (dk_at dksJ5_afterNodeRemoval_0 14 rfl rfl)
theorem dJ5_afterNodeRemoval_16 : decode cJ5_afterNodeRemoval 16 = .ok (.aload_n 2, 1) := dk_44 (dk_at dksJ5_afterNodeRemoval_0 16 rfl rfl)
theorem dJ5_afterNodeRemoval_17 : decode cJ5_afterNodeRemoval 17 = .ok (.aload_n 2, 1) := dk_44 (dk_at dksJ5_afterNodeRemoval_0 17 rfl rfl)
theorem dJ5_afterNodeRemoval_18 : decode cJ5_afterNodeRemoval 18 = .ok (.aconst_null, 1) := dk_1 (dk_at dksJ5_afterNodeRemoval_0 18 rfl rfl)
theorem dJ5_afterNodeRemoval_19 : decode cJ5_afterNodeRemoval 19 = .ok (.dup_x1, 1) := dk_90 (dk_at dksJ5_afterNodeRemoval_0 19 rfl rfl)
theorem dJ5_afterNodeRemoval_20 : decode cJ5_afterNodeRemoval 20 = .ok (.putfield 14, 3) := dk_181 0 14 (dk_at dksJ5_afterNodeRemoval_0 20 rfl rfl)
theorem dJ5_afterNodeRemoval_23 : decode cJ5_afterNodeRemoval 23 = .ok (.putfield 19, 3) := dk_181 0 19 (dk_at dksJ5_afterNodeRemoval_1 0 rfl rfl)
theorem dJ5_afterNodeRemoval_26 : decode cJ5_afterNodeRemoval 26 = .ok (.aload_n 3, 1) := dk_45 (dk_at dksJ5_afterNodeRemoval_1 3 rfl rfl)
theorem dJ5_afterNodeRemoval_27 : decode cJ5_afterNodeRemoval 27 = .ok (.ifnonnull 12, 3) := dk_199 0 12 (dk_at dksJ5_afterNodeRemoval_1 4 rfl rfl)
theorem dJ5_afterNodeRemoval_30 : decode cJ5_afterNodeRemoval 30 = .ok (.aload_n 0, 1) := dk_42 (dk_at dksJ5_afterNodeRemoval_1 7 rfl rfl)
theorem dJ5_afterNodeRemoval_31 : decode cJ5_afterNodeRemoval 31 = .ok (.aload 4, 2) := dk_25 4 (dk_at dksJ5_afterNodeRemoval_1 8 rfl rfl)
theorem dJ5_afterNodeRemoval_33 : decode cJ5_afterNodeRemoval 33 = .ok (.putfield 7, 3) := dk_181 0 7 (dk_at dksJ5_afterNodeRemoval_1 10 rfl rfl)
theorem dJ5_afterNodeRemoval_36 : decode cJ5_afterNodeRemoval 36 = .ok (.goto 9, 3) := dk_167 0 9 (dk_at dksJ5_afterNodeRemoval_1 13 rfl rfl)
theorem dJ5_afterNodeRemoval_39 : decode cJ5_afterNodeRemoval 39 = .ok (.aload_n 3, 1) := dk_45 (dk_at dksJ5_afterNodeRemoval_1 16 rfl rfl)
theorem dJ5_afterNodeRemoval_40 : decode cJ5_afterNodeRemoval 40 = .ok (.aload 4, 2) := dk_25 4 (dk_at dksJ5_afterNodeRemoval_1 17 rfl rfl)
theorem dJ5_afterNodeRemoval_42 : decode cJ5_afterNodeRemoval 42 = .ok (.putfield 14, 3) := dk_181 0 14 (dk_at dksJ5_afterNodeRemoval_1 19 rfl rfl)
theorem dJ5_afterNodeRemoval_45 : decode cJ5_afterNodeRemoval 45 = .ok (.aload 4, 2) := dk_25 4 (dk_at dksJ5_afterNodeRemoval_1 22 rfl rfl)
theorem dJ5_afterNodeRemoval_47 : decode cJ5_afterNodeRemoval 47 = .ok (.ifnonnull 11, 3) := dk_199 0 11 (dk_at dksJ5_afterNodeRemoval_2 0 rfl rfl)
theorem dJ5_afterNodeRemoval_50 : decode cJ5_afterNodeRemoval 50 = .ok (.aload_n 0, 1) := dk_42 (dk_at dksJ5_afterNodeRemoval_2 3 rfl rfl)
theorem dJ5_afterNodeRemoval_51 : decode cJ5_afterNodeRemoval 51 = .ok (.aload_n 3, 1) := dk_45 (dk_at dksJ5_afterNodeRemoval_2 4 rfl rfl)
theorem dJ5_afterNodeRemoval_52 : decode cJ5_afterNodeRemoval 52 = .ok (.putfield 11, 3) := dk_181 0 11 (dk_at dksJ5_afterNodeRemoval_2 5 rfl rfl)
theorem dJ5_afterNodeRemoval_55 : decode cJ5_afterNodeRemoval 55 = .ok (.goto 9, 3) := dk_167 0 9 (dk_at dksJ5_afterNodeRemoval_2 8 rfl rfl)
theorem dJ5_afterNodeRemoval_58 : decode cJ5_afterNodeRemoval 58 = .ok (.aload 4, 2) := dk_25 4 (dk_at dksJ5_afterNodeRemoval_2 11 rfl rfl)
theorem dJ5_afterNodeRemoval_60 : decode cJ5_afterNodeRemoval 60 = .ok (.aload_n 3, 1) := dk_45 (dk_at dksJ5_afterNodeRemoval_2 13 rfl rfl)
theorem dJ5_afterNodeRemoval_61 : decode cJ5_afterNodeRemoval 61 = .ok (.putfield 19, 3) := dk_181 0 19 (dk_at dksJ5_afterNodeRemoval_2 14 rfl rfl)
theorem dJ5_afterNodeRemoval_64 : decode cJ5_afterNodeRemoval 64 = .ok (.return_, 1) := dk_177 (dk_at dksJ5_afterNodeRemoval_2 17 rfl rfl)
abbrev cJ5_clear : ByteArray := prog_57_method_22_code
def yJ5_clear : MethodName := ⟨RJ5, "clear", "()V"⟩
def dkwJ5_clear_0 : List UInt8 := [42, 183, 0, 110, 42, 42, 1, 90, 181, 0, 11, 181, 0, 7, 177]
abbrev dktJ5_clear_0 : List UInt8 := dkwJ5_clear_0 ++ []
theorem dksJ5_clear_0 : cJ5_clear.data.toList.drop 0 = dktJ5_clear_0 := by decide +kernel
theorem dJ5_clear_0 : decode cJ5_clear 0 = .ok (.aload_n 0, 1) := dk_42 (dk_at dksJ5_clear_0 0 rfl rfl)
theorem dJ5_clear_1 : decode cJ5_clear 1 = .ok (.invokespecial 110, 3) := dk_183 0 110 (dk_at dksJ5_clear_0 1 rfl rfl)
theorem dJ5_clear_4 : decode cJ5_clear 4 = .ok (.aload_n 0, 1) := dk_42 (dk_at dksJ5_clear_0 4 rfl rfl)
theorem dJ5_clear_5 : decode cJ5_clear 5 = .ok (.aload_n 0, 1) := dk_42 (dk_at dksJ5_clear_0 5 rfl rfl)
theorem dJ5_clear_6 : decode cJ5_clear 6 = .ok (.aconst_null, 1) := dk_1 (dk_at dksJ5_clear_0 6 rfl rfl)
theorem dJ5_clear_7 : decode cJ5_clear 7 = .ok (.dup_x1, 1) := dk_90 (dk_at dksJ5_clear_0 7 rfl rfl)
theorem dJ5_clear_8 : decode cJ5_clear 8 = .ok (.putfield 11, 3) := dk_181 0 11 (dk_at dksJ5_clear_0 8 rfl rfl)
theorem dJ5_clear_11 : decode cJ5_clear 11 = .ok (.putfield 7, 3) := dk_181 0 7 (dk_at dksJ5_clear_0 11 rfl rfl)
theorem dJ5_clear_14 : decode cJ5_clear 14 = .ok (.return_, 1) := dk_177 (dk_at dksJ5_clear_0 14 rfl rfl)
abbrev cJ5_get : ByteArray := prog_57_method_20_code
def yJ5_get : MethodName := ⟨RJ5, "get", "(Ljava/lang/Object;)Ljava/lang/Object;"⟩
def dkwJ5_get_1 : List UInt8 := [44, 180, 0, 107, 176]
abbrev dktJ5_get_1 : List UInt8 := dkwJ5_get_1 ++ []
def dkwJ5_get_0 : List UInt8 := [42, 43, 182, 0, 99, 89, 77, 199, 0, 5, 1, 176, 42, 180, 0, 64, 153, 0, 8, 42, 44, 182, 0, 103]
abbrev dktJ5_get_0 : List UInt8 := dkwJ5_get_0 ++ dktJ5_get_1
theorem dksJ5_get_0 : cJ5_get.data.toList.drop 0 = dktJ5_get_0 := by decide +kernel
theorem dksJ5_get_1 : cJ5_get.data.toList.drop 24 = dktJ5_get_1 := dk_seg dksJ5_get_0 24 rfl rfl
theorem dJ5_get_0 : decode cJ5_get 0 = .ok (.aload_n 0, 1) := dk_42 (dk_at dksJ5_get_0 0 rfl rfl)
theorem dJ5_get_1 : decode cJ5_get 1 = .ok (.aload_n 1, 1) := dk_43 (dk_at dksJ5_get_0 1 rfl rfl)
theorem dJ5_get_2 : decode cJ5_get 2 = .ok (.invokevirtual 99, 3) := dk_182 0 99 (dk_at dksJ5_get_0 2 rfl rfl)
theorem dJ5_get_5 : decode cJ5_get 5 = .ok (.dup, 1) := dk_89 (dk_at dksJ5_get_0 5 rfl rfl)
theorem dJ5_get_6 : decode cJ5_get 6 = .ok (.astore_n 2, 1) := dk_77 (dk_at dksJ5_get_0 6 rfl rfl)
theorem dJ5_get_7 : decode cJ5_get 7 = .ok (.ifnonnull 5, 3) := dk_199 0 5 (dk_at dksJ5_get_0 7 rfl rfl)
theorem dJ5_get_10 : decode cJ5_get 10 = .ok (.aconst_null, 1) := dk_1 (dk_at dksJ5_get_0 10 rfl rfl)
theorem dJ5_get_11 : decode cJ5_get 11 = .ok (.areturn, 1) := dk_176 (dk_at dksJ5_get_0 11 rfl rfl)
theorem dJ5_get_12 : decode cJ5_get 12 = .ok (.aload_n 0, 1) := dk_42 (dk_at dksJ5_get_0 12 rfl rfl)
theorem dJ5_get_13 : decode cJ5_get 13 = .ok (.getfield 64, 3) := dk_180 0 64 (dk_at dksJ5_get_0 13 rfl rfl)
theorem dJ5_get_16 : decode cJ5_get 16 = .ok (.ifCond .eq 8, 3) := dk_153 0 8 (dk_at dksJ5_get_0 16 rfl rfl)
theorem dJ5_get_19 : decode cJ5_get 19 = .ok (.aload_n 0, 1) := dk_42 (dk_at dksJ5_get_0 19 rfl rfl)
theorem dJ5_get_20 : decode cJ5_get 20 = .ok (.aload_n 2, 1) := dk_44 (dk_at dksJ5_get_0 20 rfl rfl)
theorem dJ5_get_21 : decode cJ5_get 21 = .ok (.invokevirtual 103, 3) := dk_182 0 103 (dk_at dksJ5_get_0 21 rfl rfl)
theorem dJ5_get_24 : decode cJ5_get 24 = .ok (.aload_n 2, 1) := dk_44 (dk_at dksJ5_get_1 0 rfl rfl)
theorem dJ5_get_25 : decode cJ5_get 25 = .ok (.getfield 107, 3) := dk_180 0 107 (dk_at dksJ5_get_1 1 rfl rfl)
theorem dJ5_get_28 : decode cJ5_get 28 = .ok (.areturn, 1) := dk_176 (dk_at dksJ5_get_1 4 rfl rfl)
theorem q106 : (Jvm.Cond.initialized "java/util/LinkedHashMap") ∈ lw_all := lw_g (lw_at lw_m1 9 rfl) rfl
theorem q217 : (Jvm.Cond.instantiable "java/util/LinkedHashMap" (12 : Nat)) ∈ lw_all := lw_g (lw_at lw_m1 120 rfl) rfl
theorem q219 : (Jvm.Cond.instanceMethod ({ cls := "java/util/LinkedHashMap", name := "<init>", desc := "()V" } : Jvm.MethodName)) ∈ lw_all := lw_g (lw_at lw_m1 122 rfl) rfl
theorem q220 : (Jvm.Cond.code ({ cls := "java/util/LinkedHashMap", name := "<init>", desc := "()V" } : Jvm.MethodName) prog_57_method_16_code (1 : Nat) (Option.none : Option Jvm.ClassFile.FieldType)) ∈ lw_all := lw_g (lw_at lw_m1 123 rfl) rfl
theorem q221 : (Jvm.Cond.methodLink "java/util/LinkedHashMap" (87 : Nat) ({ cls := "java/util/HashMap", name := "<init>", desc := "()V" } : Jvm.MethodName)) ∈ lw_all := lw_g (lw_at lw_m1 124 rfl) rfl
theorem q229 : (Jvm.Cond.fieldLink "java/util/LinkedHashMap" (7 : Nat) "java/util/LinkedHashMap" "head" "Ljava/util/LinkedHashMap$Entry;") ∈ lw_all := lw_g (lw_at lw_m1 132 rfl) rfl
theorem q232 : (Jvm.Cond.fieldLink "java/util/LinkedHashMap" (11 : Nat) "java/util/LinkedHashMap" "tail" "Ljava/util/LinkedHashMap$Entry;") ∈ lw_all := lw_g (lw_at lw_m1 135 rfl) rfl
theorem q233 : (Jvm.Cond.fieldLink "java/util/LinkedHashMap" (64 : Nat) "java/util/LinkedHashMap" "accessOrder" "Z") ∈ lw_all := lw_g (lw_at lw_m1 136 rfl) rfl
theorem q234 : (Jvm.Cond.fieldLink "java/util/LinkedHashMap" (1 : Nat) "java/util/LinkedHashMap" "putMode" "I") ∈ lw_all := lw_g (lw_at lw_m1 137 rfl) rfl
theorem q241 : (Jvm.Cond.sameField "java/util/LinkedHashMap" "java/util/HashMap" "modCount" "I") ∈ lw_all := lw_g (lw_at lw_m1 144 rfl) rfl
theorem q242 : (Jvm.Cond.fieldLink "java/util/LinkedHashMap" (68 : Nat) "java/util/LinkedHashMap" "modCount" "I") ∈ lw_all := lw_g (lw_at lw_m1 145 rfl) rfl
theorem q248 : (Jvm.Cond.fieldLink "java/util/LinkedHashMap" (117 : Nat) "java/util/LinkedHashMap" "keySet" "Ljava/util/Set;") ∈ lw_all := lw_g (lw_at lw_m1 151 rfl) rfl
theorem q249 : (Jvm.Cond.sameField "java/util/LinkedHashMap" "java/util/AbstractMap" "keySet" "Ljava/util/Set;") ∈ lw_all := lw_g (lw_at lw_m1 152 rfl) rfl
theorem q252 : (Jvm.Cond.lays "java/util/LinkedHashMap" "java/util/LinkedHashMap" "head" "Ljava/util/LinkedHashMap$Entry;") ∈ lw_all := lw_g (lw_at lw_m1 155 rfl) rfl
theorem q253 : (Jvm.Cond.soleField "java/util/LinkedHashMap" "head") ∈ lw_all := lw_g (lw_at lw_m1 156 rfl) rfl
theorem q254 : (Jvm.Cond.lays "java/util/LinkedHashMap" "java/util/LinkedHashMap" "tail" "Ljava/util/LinkedHashMap$Entry;") ∈ lw_all := lw_g (lw_at lw_m1 157 rfl) rfl
theorem q255 : (Jvm.Cond.soleField "java/util/LinkedHashMap" "tail") ∈ lw_all := lw_g (lw_at lw_m1 158 rfl) rfl
theorem q256 : (Jvm.Cond.laysFinal "java/util/LinkedHashMap" "java/util/LinkedHashMap" "accessOrder" "Z") ∈ lw_all := lw_g (lw_at lw_m1 159 rfl) rfl
theorem q257 : (Jvm.Cond.soleField "java/util/LinkedHashMap" "accessOrder") ∈ lw_all := lw_g (lw_at lw_m1 160 rfl) rfl
theorem q258 : (Jvm.Cond.lays "java/util/LinkedHashMap" "java/util/LinkedHashMap" "putMode" "I") ∈ lw_all := lw_g (lw_at lw_m1 161 rfl) rfl
theorem q259 : (Jvm.Cond.soleField "java/util/LinkedHashMap" "putMode") ∈ lw_all := lw_g (lw_at lw_m1 162 rfl) rfl
theorem q260 : (Jvm.Cond.lays "java/util/LinkedHashMap" "java/util/HashMap" "table" "[Ljava/util/HashMap$Node;") ∈ lw_all := lw_g (lw_at lw_m1 163 rfl) rfl
theorem q262 : (Jvm.Cond.lays "java/util/LinkedHashMap" "java/util/HashMap" "entrySet" "Ljava/util/Set;") ∈ lw_all := lw_g (lw_at lw_m1 165 rfl) rfl
theorem q264 : (Jvm.Cond.lays "java/util/LinkedHashMap" "java/util/HashMap" "size" "I") ∈ lw_all := lw_g (lw_at lw_m1 167 rfl) rfl
theorem q266 : (Jvm.Cond.lays "java/util/LinkedHashMap" "java/util/HashMap" "modCount" "I") ∈ lw_all := lw_g (lw_at lw_m1 169 rfl) rfl
theorem q268 : (Jvm.Cond.lays "java/util/LinkedHashMap" "java/util/HashMap" "threshold" "I") ∈ lw_all := lw_g (lw_at lw_m1 171 rfl) rfl
theorem q270 : (Jvm.Cond.laysFinal "java/util/LinkedHashMap" "java/util/HashMap" "loadFactor" "F") ∈ lw_all := lw_g (lw_at lw_m1 173 rfl) rfl
theorem q272 : (Jvm.Cond.lays "java/util/LinkedHashMap" "java/util/AbstractMap" "keySet" "Ljava/util/Set;") ∈ lw_all := lw_g (lw_at lw_m1 175 rfl) rfl
theorem q274 : (Jvm.Cond.lays "java/util/LinkedHashMap" "java/util/AbstractMap" "values" "Ljava/util/Collection;") ∈ lw_all := lw_g (lw_at lw_m1 177 rfl) rfl
theorem q276 : (Jvm.Cond.superclass "java/util/LinkedHashMap" "java/util/HashMap") ∈ lw_all := lw_g (lw_at lw_m1 179 rfl) rfl
theorem q617 : (Jvm.Cond.instanceMethod ({ cls := "java/util/LinkedHashMap", name := "<init>", desc := "(IF)V" } : Jvm.MethodName)) ∈ lw_all := lw_g (lw_at lw_m3 40 rfl) rfl
theorem q618 : (Jvm.Cond.code ({ cls := "java/util/LinkedHashMap", name := "<init>", desc := "(IF)V" } : Jvm.MethodName) prog_57_method_14_code (3 : Nat) (Option.none : Option Jvm.ClassFile.FieldType)) ∈ lw_all := lw_g (lw_at lw_m3 41 rfl) rfl
theorem q619 : (Jvm.Cond.methodLink "java/util/LinkedHashMap" (81 : Nat) ({ cls := "java/util/HashMap", name := "<init>", desc := "(IF)V" } : Jvm.MethodName)) ∈ lw_all := lw_g (lw_at lw_m3 42 rfl) rfl
theorem q798 : (Jvm.Cond.selects "java/util/LinkedHashMap" ({ cls := "java/util/HashMap", name := "keySet", desc := "()Ljava/util/Set;" } : Jvm.MethodName) ({ cls := "java/util/LinkedHashMap", name := "keySet", desc := "()Ljava/util/Set;" } : Jvm.MethodName)) ∈ lw_all := lw_g (lw_at lw_m3 221 rfl) rfl
theorem q799 : (Jvm.Cond.instanceMethod ({ cls := "java/util/LinkedHashMap", name := "keySet", desc := "()Ljava/util/Set;" } : Jvm.MethodName)) ∈ lw_all := lw_g (lw_at lw_m3 222 rfl) rfl
theorem q800 : (Jvm.Cond.code ({ cls := "java/util/LinkedHashMap", name := "keySet", desc := "()Ljava/util/Set;" } : Jvm.MethodName) prog_57_method_24_code (1 : Nat) (Option.some (Jvm.ClassFile.FieldType.object "java/util/Set"))) ∈ lw_all := lw_g (lw_at lw_m3 223 rfl) rfl
theorem q801 : (Jvm.Cond.methodLink "java/util/LinkedHashMap" (113 : Nat) ({ cls := "java/util/LinkedHashMap", name := "sequencedKeySet", desc := "()Ljava/util/SequencedSet;" } : Jvm.MethodName)) ∈ lw_all := lw_g (lw_at lw_m3 224 rfl) rfl
theorem q802 : (Jvm.Cond.instanceMethod ({ cls := "java/util/LinkedHashMap", name := "sequencedKeySet", desc := "()Ljava/util/SequencedSet;" } : Jvm.MethodName)) ∈ lw_all := lw_g (lw_at lw_m3 225 rfl) rfl
theorem q803 : (Jvm.Cond.selects "java/util/LinkedHashMap" ({ cls := "java/util/LinkedHashMap", name := "sequencedKeySet", desc := "()Ljava/util/SequencedSet;" } : Jvm.MethodName) ({ cls := "java/util/LinkedHashMap", name := "sequencedKeySet", desc := "()Ljava/util/SequencedSet;" } : Jvm.MethodName)) ∈ lw_all := lw_g (lw_at lw_m3 226 rfl) rfl
theorem q804 : (Jvm.Cond.code ({ cls := "java/util/LinkedHashMap", name := "sequencedKeySet", desc := "()Ljava/util/SequencedSet;" } : Jvm.MethodName) prog_57_method_25_code (3 : Nat) (Option.some (Jvm.ClassFile.FieldType.object "java/util/SequencedSet"))) ∈ lw_all := lw_g (lw_at lw_m3 227 rfl) rfl
theorem q805 : (Jvm.Cond.classLink "java/util/LinkedHashMap" (121 : Nat) "java/util/LinkedHashMap$LinkedKeySet") ∈ lw_all := lw_g (lw_at lw_m3 228 rfl) rfl
theorem q807 : (Jvm.Cond.methodLink "java/util/LinkedHashMap" (123 : Nat) ({ cls := "java/util/LinkedHashMap$LinkedKeySet", name := "<init>", desc := "(Ljava/util/LinkedHashMap;Z)V" } : Jvm.MethodName)) ∈ lw_all := lw_g (lw_at lw_m3 230 rfl) rfl
theorem q818 : (Jvm.Cond.classLink "java/util/LinkedHashMap" (126 : Nat) "java/util/SequencedSet") ∈ lw_all := lw_g (lw_at lw_m4 1 rfl) rfl
theorem q909 : (Jvm.Cond.selects "java/util/LinkedHashMap" ({ cls := "java/util/HashMap", name := "put", desc := "(Ljava/lang/Object;Ljava/lang/Object;)Ljava/lang/Object;" } : Jvm.MethodName) ({ cls := "java/util/HashMap", name := "put", desc := "(Ljava/lang/Object;Ljava/lang/Object;)Ljava/lang/Object;" } : Jvm.MethodName)) ∈ lw_all := lw_g (lw_at lw_m4 92 rfl) rfl
theorem q1009 : (Jvm.Cond.selects "java/util/LinkedHashMap" ({ cls := "java/util/HashMap", name := "putVal", desc := "(ILjava/lang/Object;Ljava/lang/Object;ZZ)Ljava/lang/Object;" } : Jvm.MethodName) ({ cls := "java/util/HashMap", name := "putVal", desc := "(ILjava/lang/Object;Ljava/lang/Object;ZZ)Ljava/lang/Object;" } : Jvm.MethodName)) ∈ lw_all := lw_g (lw_at lw_m4 192 rfl) rfl
theorem q1014 : (Jvm.Cond.selects "java/util/LinkedHashMap" ({ cls := "java/util/HashMap", name := "resize", desc := "()[Ljava/util/HashMap$Node;" } : Jvm.MethodName) ({ cls := "java/util/HashMap", name := "resize", desc := "()[Ljava/util/HashMap$Node;" } : Jvm.MethodName)) ∈ lw_all := lw_g (lw_at lw_m4 197 rfl) rfl
theorem q1033 : (Jvm.Cond.selects "java/util/LinkedHashMap" ({ cls := "java/util/HashMap", name := "replacementNode", desc := "(Ljava/util/HashMap$Node;Ljava/util/HashMap$Node;)Ljava/util/HashMap$Node;" } : Jvm.MethodName) ({ cls := "java/util/LinkedHashMap", name := "replacementNode", desc := "(Ljava/util/HashMap$Node;Ljava/util/HashMap$Node;)Ljava/util/HashMap$Node;" } : Jvm.MethodName)) ∈ lw_all := lw_g (lw_at lw_m4 216 rfl) rfl
theorem q1034 : (Jvm.Cond.instanceMethod ({ cls := "java/util/LinkedHashMap", name := "replacementNode", desc := "(Ljava/util/HashMap$Node;Ljava/util/HashMap$Node;)Ljava/util/HashMap$Node;" } : Jvm.MethodName)) ∈ lw_all := lw_g (lw_at lw_m4 217 rfl) rfl
theorem q1035 : (Jvm.Cond.code ({ cls := "java/util/LinkedHashMap", name := "replacementNode", desc := "(Ljava/util/HashMap$Node;Ljava/util/HashMap$Node;)Ljava/util/HashMap$Node;" } : Jvm.MethodName) prog_57_method_5_code (5 : Nat) (Option.some (Jvm.ClassFile.FieldType.object "java/util/HashMap$Node"))) ∈ lw_all := lw_g (lw_at lw_m4 218 rfl) rfl
theorem q1036 : (Jvm.Cond.classLink "java/util/LinkedHashMap" (15 : Nat) "java/util/LinkedHashMap$Entry") ∈ lw_all := lw_g (lw_at lw_m4 219 rfl) rfl
theorem q1038 : (Jvm.Cond.methodLink "java/util/LinkedHashMap" (28 : Nat) ({ cls := "java/util/LinkedHashMap$Entry", name := "<init>", desc := "(ILjava/lang/Object;Ljava/lang/Object;Ljava/util/HashMap$Node;)V" } : Jvm.MethodName)) ∈ lw_all := lw_g (lw_at lw_m4 221 rfl) rfl
theorem q1045 : (Jvm.Cond.fieldLink "java/util/LinkedHashMap" (19 : Nat) "java/util/LinkedHashMap$Entry" "before" "Ljava/util/LinkedHashMap$Entry;") ∈ lw_all := lw_g (lw_at lw_m4 228 rfl) rfl
theorem q1047 : (Jvm.Cond.fieldLink "java/util/LinkedHashMap" (14 : Nat) "java/util/LinkedHashMap$Entry" "after" "Ljava/util/LinkedHashMap$Entry;") ∈ lw_all := lw_g (lw_at lw_m4 230 rfl) rfl
theorem q1052 : (Jvm.Cond.fieldLink "java/util/LinkedHashMap" (36 : Nat) "java/util/LinkedHashMap$Entry" "hash" "I") ∈ lw_all := lw_g (lw_at lw_m4 235 rfl) rfl
theorem q1059 : (Jvm.Cond.fieldLink "java/util/LinkedHashMap" (39 : Nat) "java/util/LinkedHashMap$Entry" "key" "Ljava/lang/Object;") ∈ lw_all := lw_g (lw_at lw_m5 2 rfl) rfl
theorem q1063 : (Jvm.Cond.fieldLink "java/util/LinkedHashMap" (43 : Nat) "java/util/LinkedHashMap$Entry" "value" "Ljava/lang/Object;") ∈ lw_all := lw_g (lw_at lw_m5 6 rfl) rfl
theorem q1066 : (Jvm.Cond.fieldLink "java/util/LinkedHashMap" (107 : Nat) "java/util/HashMap$Node" "value" "Ljava/lang/Object;") ∈ lw_all := lw_g (lw_at lw_m5 9 rfl) rfl
theorem q1087 : (Jvm.Cond.methodLink "java/util/LinkedHashMap" (46 : Nat) ({ cls := "java/util/LinkedHashMap", name := "transferLinks", desc := "(Ljava/util/LinkedHashMap$Entry;Ljava/util/LinkedHashMap$Entry;)V" } : Jvm.MethodName)) ∈ lw_all := lw_g (lw_at lw_m5 30 rfl) rfl
theorem q1088 : (Jvm.Cond.privateMethod ({ cls := "java/util/LinkedHashMap", name := "transferLinks", desc := "(Ljava/util/LinkedHashMap$Entry;Ljava/util/LinkedHashMap$Entry;)V" } : Jvm.MethodName)) ∈ lw_tbl := lw_at lw_m5 31 rfl
theorem q1089 : (Jvm.Cond.instanceMethod ({ cls := "java/util/LinkedHashMap", name := "transferLinks", desc := "(Ljava/util/LinkedHashMap$Entry;Ljava/util/LinkedHashMap$Entry;)V" } : Jvm.MethodName)) ∈ lw_all := lw_g (lw_at lw_m5 32 rfl) rfl
theorem q1090 : (Jvm.Cond.code ({ cls := "java/util/LinkedHashMap", name := "transferLinks", desc := "(Ljava/util/LinkedHashMap$Entry;Ljava/util/LinkedHashMap$Entry;)V" } : Jvm.MethodName) prog_57_method_2_code (5 : Nat) (Option.none : Option Jvm.ClassFile.FieldType)) ∈ lw_all := lw_g (lw_at lw_m5 33 rfl) rfl
theorem q1125 : (Jvm.Cond.selects "java/util/LinkedHashMap" ({ cls := "java/lang/Object", name := "getClass", desc := "()Ljava/lang/Class;" } : Jvm.MethodName) ({ cls := "java/lang/Object", name := "getClass", desc := "()Ljava/lang/Class;" } : Jvm.MethodName)) ∈ lw_all := lw_g (lw_at lw_m5 68 rfl) rfl
theorem q1381 : (Jvm.Cond.selects "java/util/LinkedHashMap" ({ cls := "java/util/HashMap", name := "newNode", desc := "(ILjava/lang/Object;Ljava/lang/Object;Ljava/util/HashMap$Node;)Ljava/util/HashMap$Node;" } : Jvm.MethodName) ({ cls := "java/util/LinkedHashMap", name := "newNode", desc := "(ILjava/lang/Object;Ljava/lang/Object;Ljava/util/HashMap$Node;)Ljava/util/HashMap$Node;" } : Jvm.MethodName)) ∈ lw_all := lw_g (lw_at lw_m6 84 rfl) rfl
theorem q1382 : (Jvm.Cond.instanceMethod ({ cls := "java/util/LinkedHashMap", name := "newNode", desc := "(ILjava/lang/Object;Ljava/lang/Object;Ljava/util/HashMap$Node;)Ljava/util/HashMap$Node;" } : Jvm.MethodName)) ∈ lw_all := lw_g (lw_at lw_m6 85 rfl) rfl
theorem q1383 : (Jvm.Cond.code ({ cls := "java/util/LinkedHashMap", name := "newNode", desc := "(ILjava/lang/Object;Ljava/lang/Object;Ljava/util/HashMap$Node;)Ljava/util/HashMap$Node;" } : Jvm.MethodName) prog_57_method_4_code (6 : Nat) (Option.some (Jvm.ClassFile.FieldType.object "java/util/HashMap$Node"))) ∈ lw_all := lw_g (lw_at lw_m6 86 rfl) rfl
theorem q1384 : (Jvm.Cond.methodLink "java/util/LinkedHashMap" (32 : Nat) ({ cls := "java/util/LinkedHashMap", name := "linkNodeAtEnd", desc := "(Ljava/util/LinkedHashMap$Entry;)V" } : Jvm.MethodName)) ∈ lw_all := lw_g (lw_at lw_m6 87 rfl) rfl
theorem q1385 : (Jvm.Cond.privateMethod ({ cls := "java/util/LinkedHashMap", name := "linkNodeAtEnd", desc := "(Ljava/util/LinkedHashMap$Entry;)V" } : Jvm.MethodName)) ∈ lw_tbl := lw_at lw_m6 88 rfl
theorem q1386 : (Jvm.Cond.instanceMethod ({ cls := "java/util/LinkedHashMap", name := "linkNodeAtEnd", desc := "(Ljava/util/LinkedHashMap$Entry;)V" } : Jvm.MethodName)) ∈ lw_all := lw_g (lw_at lw_m6 89 rfl) rfl
theorem q1387 : (Jvm.Cond.code ({ cls := "java/util/LinkedHashMap", name := "linkNodeAtEnd", desc := "(Ljava/util/LinkedHashMap$Entry;)V" } : Jvm.MethodName) prog_57_method_1_code (3 : Nat) (Option.none : Option Jvm.ClassFile.FieldType)) ∈ lw_all := lw_g (lw_at lw_m6 90 rfl) rfl
theorem q1439 : (Jvm.Cond.selects "java/util/LinkedHashMap" ({ cls := "java/util/HashMap", name := "newTreeNode", desc := "(ILjava/lang/Object;Ljava/lang/Object;Ljava/util/HashMap$Node;)Ljava/util/HashMap$TreeNode;" } : Jvm.MethodName) ({ cls := "java/util/LinkedHashMap", name := "newTreeNode", desc := "(ILjava/lang/Object;Ljava/lang/Object;Ljava/util/HashMap$Node;)Ljava/util/HashMap$TreeNode;" } : Jvm.MethodName)) ∈ lw_all := lw_g (lw_at lw_m6 142 rfl) rfl
theorem q1440 : (Jvm.Cond.instanceMethod ({ cls := "java/util/LinkedHashMap", name := "newTreeNode", desc := "(ILjava/lang/Object;Ljava/lang/Object;Ljava/util/HashMap$Node;)Ljava/util/HashMap$TreeNode;" } : Jvm.MethodName)) ∈ lw_all := lw_g (lw_at lw_m6 143 rfl) rfl
theorem q1441 : (Jvm.Cond.code ({ cls := "java/util/LinkedHashMap", name := "newTreeNode", desc := "(ILjava/lang/Object;Ljava/lang/Object;Ljava/util/HashMap$Node;)Ljava/util/HashMap$TreeNode;" } : Jvm.MethodName) prog_57_method_6_code (6 : Nat) (Option.some (Jvm.ClassFile.FieldType.object "java/util/HashMap$TreeNode"))) ∈ lw_all := lw_g (lw_at lw_m6 144 rfl) rfl
theorem q1442 : (Jvm.Cond.classLink "java/util/LinkedHashMap" (50 : Nat) "java/util/HashMap$TreeNode") ∈ lw_all := lw_g (lw_at lw_m6 145 rfl) rfl
theorem q1444 : (Jvm.Cond.methodLink "java/util/LinkedHashMap" (52 : Nat) ({ cls := "java/util/HashMap$TreeNode", name := "<init>", desc := "(ILjava/lang/Object;Ljava/lang/Object;Ljava/util/HashMap$Node;)V" } : Jvm.MethodName)) ∈ lw_all := lw_g (lw_at lw_m6 147 rfl) rfl
theorem q1475 : (Jvm.Cond.selects "java/util/LinkedHashMap" ({ cls := "java/util/HashMap", name := "treeifyBin", desc := "([Ljava/util/HashMap$Node;I)V" } : Jvm.MethodName) ({ cls := "java/util/HashMap", name := "treeifyBin", desc := "([Ljava/util/HashMap$Node;I)V" } : Jvm.MethodName)) ∈ lw_all := lw_g (lw_at lw_m6 178 rfl) rfl
theorem q1480 : (Jvm.Cond.selects "java/util/LinkedHashMap" ({ cls := "java/util/HashMap", name := "replacementTreeNode", desc := "(Ljava/util/HashMap$Node;Ljava/util/HashMap$Node;)Ljava/util/HashMap$TreeNode;" } : Jvm.MethodName) ({ cls := "java/util/LinkedHashMap", name := "replacementTreeNode", desc := "(Ljava/util/HashMap$Node;Ljava/util/HashMap$Node;)Ljava/util/HashMap$TreeNode;" } : Jvm.MethodName)) ∈ lw_all := lw_g (lw_at lw_m6 183 rfl) rfl
theorem q1481 : (Jvm.Cond.instanceMethod ({ cls := "java/util/LinkedHashMap", name := "replacementTreeNode", desc := "(Ljava/util/HashMap$Node;Ljava/util/HashMap$Node;)Ljava/util/HashMap$TreeNode;" } : Jvm.MethodName)) ∈ lw_all := lw_g (lw_at lw_m6 184 rfl) rfl
theorem q1482 : (Jvm.Cond.code ({ cls := "java/util/LinkedHashMap", name := "replacementTreeNode", desc := "(Ljava/util/HashMap$Node;Ljava/util/HashMap$Node;)Ljava/util/HashMap$TreeNode;" } : Jvm.MethodName) prog_57_method_7_code (5 : Nat) (Option.some (Jvm.ClassFile.FieldType.object "java/util/HashMap$TreeNode"))) ∈ lw_all := lw_g (lw_at lw_m6 185 rfl) rfl
theorem q1488 : (Jvm.Cond.selects "java/util/LinkedHashMap" ({ cls := "java/util/HashMap", name := "afterNodeAccess", desc := "(Ljava/util/HashMap$Node;)V" } : Jvm.MethodName) ({ cls := "java/util/LinkedHashMap", name := "afterNodeAccess", desc := "(Ljava/util/HashMap$Node;)V" } : Jvm.MethodName)) ∈ lw_all := lw_g (lw_at lw_m6 191 rfl) rfl
theorem q1489 : (Jvm.Cond.instanceMethod ({ cls := "java/util/LinkedHashMap", name := "afterNodeAccess", desc := "(Ljava/util/HashMap$Node;)V" } : Jvm.MethodName)) ∈ lw_all := lw_g (lw_at lw_m6 192 rfl) rfl
theorem q1490 : (Jvm.Cond.code ({ cls := "java/util/LinkedHashMap", name := "afterNodeAccess", desc := "(Ljava/util/HashMap$Node;)V" } : Jvm.MethodName) prog_57_method_10_code (7 : Nat) (Option.none : Option Jvm.ClassFile.FieldType)) ∈ lw_all := lw_g (lw_at lw_m6 193 rfl) rfl
theorem q1495 : (Jvm.Cond.selects "java/util/LinkedHashMap" ({ cls := "java/util/HashMap", name := "afterNodeInsertion", desc := "(Z)V" } : Jvm.MethodName) ({ cls := "java/util/LinkedHashMap", name := "afterNodeInsertion", desc := "(Z)V" } : Jvm.MethodName)) ∈ lw_all := lw_g (lw_at lw_m6 198 rfl) rfl
theorem q1496 : (Jvm.Cond.instanceMethod ({ cls := "java/util/LinkedHashMap", name := "afterNodeInsertion", desc := "(Z)V" } : Jvm.MethodName)) ∈ lw_all := lw_g (lw_at lw_m6 199 rfl) rfl
theorem q1497 : (Jvm.Cond.code ({ cls := "java/util/LinkedHashMap", name := "afterNodeInsertion", desc := "(Z)V" } : Jvm.MethodName) prog_57_method_9_code (4 : Nat) (Option.none : Option Jvm.ClassFile.FieldType)) ∈ lw_all := lw_g (lw_at lw_m6 200 rfl) rfl
theorem q1498 : (Jvm.Cond.methodLink "java/util/LinkedHashMap" (53 : Nat) ({ cls := "java/util/LinkedHashMap", name := "removeEldestEntry", desc := "(Ljava/util/Map$Entry;)Z" } : Jvm.MethodName)) ∈ lw_all := lw_g (lw_at lw_m6 201 rfl) rfl
theorem q1499 : (Jvm.Cond.instanceMethod ({ cls := "java/util/LinkedHashMap", name := "removeEldestEntry", desc := "(Ljava/util/Map$Entry;)Z" } : Jvm.MethodName)) ∈ lw_all := lw_g (lw_at lw_m6 202 rfl) rfl
theorem q1500 : (Jvm.Cond.selects "java/util/LinkedHashMap" ({ cls := "java/util/LinkedHashMap", name := "removeEldestEntry", desc := "(Ljava/util/Map$Entry;)Z" } : Jvm.MethodName) ({ cls := "java/util/LinkedHashMap", name := "removeEldestEntry", desc := "(Ljava/util/Map$Entry;)Z" } : Jvm.MethodName)) ∈ lw_all := lw_g (lw_at lw_m6 203 rfl) rfl
theorem q1501 : (Jvm.Cond.code ({ cls := "java/util/LinkedHashMap", name := "removeEldestEntry", desc := "(Ljava/util/Map$Entry;)Z" } : Jvm.MethodName) prog_57_method_23_code (2 : Nat) (Option.some Jvm.ClassFile.FieldType.boolean)) ∈ lw_all := lw_g (lw_at lw_m6 204 rfl) rfl
theorem q1613 : (Jvm.Cond.sameMethod "java/util/LinkedHashMap" "java/util/HashMap" "put" "(Ljava/lang/Object;Ljava/lang/Object;)Ljava/lang/Object;") ∈ lw_all := lw_g (lw_at lw_m7 76 rfl) rfl
theorem q1615 : (Jvm.Cond.selects "java/util/LinkedHashMap" ({ cls := "java/util/LinkedHashMap", name := "put", desc := "(Ljava/lang/Object;Ljava/lang/Object;)Ljava/lang/Object;" } : Jvm.MethodName) ({ cls := "java/util/HashMap", name := "put", desc := "(Ljava/lang/Object;Ljava/lang/Object;)Ljava/lang/Object;" } : Jvm.MethodName)) ∈ lw_all := lw_g (lw_at lw_m7 78 rfl) rfl
theorem q1682 : (Jvm.Cond.sameMethod "java/util/LinkedHashMap" "java/util/HashMap" "containsKey" "(Ljava/lang/Object;)Z") ∈ lw_all := lw_g (lw_at lw_m7 145 rfl) rfl
theorem q1684 : (Jvm.Cond.selects "java/util/LinkedHashMap" ({ cls := "java/util/LinkedHashMap", name := "containsKey", desc := "(Ljava/lang/Object;)Z" } : Jvm.MethodName) ({ cls := "java/util/HashMap", name := "containsKey", desc := "(Ljava/lang/Object;)Z" } : Jvm.MethodName)) ∈ lw_all := lw_g (lw_at lw_m7 147 rfl) rfl
theorem q1690 : (Jvm.Cond.selects "java/util/LinkedHashMap" ({ cls := "java/util/HashMap", name := "getNode", desc := "(Ljava/lang/Object;)Ljava/util/HashMap$Node;" } : Jvm.MethodName) ({ cls := "java/util/HashMap", name := "getNode", desc := "(Ljava/lang/Object;)Ljava/util/HashMap$Node;" } : Jvm.MethodName)) ∈ lw_all := lw_g (lw_at lw_m7 153 rfl) rfl
theorem q1786 : (Jvm.Cond.selects "java/util/LinkedHashMap" ({ cls := "java/util/HashMap", name := "size", desc := "()I" } : Jvm.MethodName) ({ cls := "java/util/HashMap", name := "size", desc := "()I" } : Jvm.MethodName)) ∈ lw_all := lw_g (lw_at lw_m8 9 rfl) rfl
theorem q2197 : (Jvm.Cond.sameMethod "java/util/LinkedHashMap" "java/util/HashMap" "remove" "(Ljava/lang/Object;)Ljava/lang/Object;") ∈ lw_all := lw_g (lw_at lw_m9 180 rfl) rfl
theorem q2199 : (Jvm.Cond.selects "java/util/LinkedHashMap" ({ cls := "java/util/LinkedHashMap", name := "remove", desc := "(Ljava/lang/Object;)Ljava/lang/Object;" } : Jvm.MethodName) ({ cls := "java/util/HashMap", name := "remove", desc := "(Ljava/lang/Object;)Ljava/lang/Object;" } : Jvm.MethodName)) ∈ lw_all := lw_g (lw_at lw_m9 182 rfl) rfl
theorem q2205 : (Jvm.Cond.selects "java/util/LinkedHashMap" ({ cls := "java/util/HashMap", name := "removeNode", desc := "(ILjava/lang/Object;Ljava/lang/Object;ZZ)Ljava/util/HashMap$Node;" } : Jvm.MethodName) ({ cls := "java/util/HashMap", name := "removeNode", desc := "(ILjava/lang/Object;Ljava/lang/Object;ZZ)Ljava/util/HashMap$Node;" } : Jvm.MethodName)) ∈ lw_all := lw_g (lw_at lw_m9 188 rfl) rfl
theorem q2217 : (Jvm.Cond.selects "java/util/LinkedHashMap" ({ cls := "java/util/HashMap", name := "afterNodeRemoval", desc := "(Ljava/util/HashMap$Node;)V" } : Jvm.MethodName) ({ cls := "java/util/LinkedHashMap", name := "afterNodeRemoval", desc := "(Ljava/util/HashMap$Node;)V" } : Jvm.MethodName)) ∈ lw_all := lw_g (lw_at lw_m9 200 rfl) rfl
theorem q2218 : (Jvm.Cond.instanceMethod ({ cls := "java/util/LinkedHashMap", name := "afterNodeRemoval", desc := "(Ljava/util/HashMap$Node;)V" } : Jvm.MethodName)) ∈ lw_all := lw_g (lw_at lw_m9 201 rfl) rfl
theorem q2219 : (Jvm.Cond.code ({ cls := "java/util/LinkedHashMap", name := "afterNodeRemoval", desc := "(Ljava/util/HashMap$Node;)V" } : Jvm.MethodName) prog_57_method_8_code (5 : Nat) (Option.none : Option Jvm.ClassFile.FieldType)) ∈ lw_all := lw_g (lw_at lw_m9 202 rfl) rfl
theorem q2230 : (Jvm.Cond.selects "java/util/LinkedHashMap" ({ cls := "java/util/HashMap", name := "clear", desc := "()V" } : Jvm.MethodName) ({ cls := "java/util/LinkedHashMap", name := "clear", desc := "()V" } : Jvm.MethodName)) ∈ lw_all := lw_g (lw_at lw_m9 213 rfl) rfl
theorem q2231 : (Jvm.Cond.instanceMethod ({ cls := "java/util/LinkedHashMap", name := "clear", desc := "()V" } : Jvm.MethodName)) ∈ lw_all := lw_g (lw_at lw_m9 214 rfl) rfl
theorem q2232 : (Jvm.Cond.code ({ cls := "java/util/LinkedHashMap", name := "clear", desc := "()V" } : Jvm.MethodName) prog_57_method_22_code (1 : Nat) (Option.none : Option Jvm.ClassFile.FieldType)) ∈ lw_all := lw_g (lw_at lw_m9 215 rfl) rfl
theorem q2233 : (Jvm.Cond.methodLink "java/util/LinkedHashMap" (110 : Nat) ({ cls := "java/util/HashMap", name := "clear", desc := "()V" } : Jvm.MethodName)) ∈ lw_all := lw_g (lw_at lw_m9 216 rfl) rfl
theorem q2509 : (Jvm.Cond.instanceMethod ({ cls := "java/util/LinkedHashMap", name := "get", desc := "(Ljava/lang/Object;)Ljava/lang/Object;" } : Jvm.MethodName)) ∈ lw_all := lw_g (lw_at lw_m11 12 rfl) rfl
theorem q2510 : (Jvm.Cond.selects "java/util/LinkedHashMap" ({ cls := "java/util/LinkedHashMap", name := "get", desc := "(Ljava/lang/Object;)Ljava/lang/Object;" } : Jvm.MethodName) ({ cls := "java/util/LinkedHashMap", name := "get", desc := "(Ljava/lang/Object;)Ljava/lang/Object;" } : Jvm.MethodName)) ∈ lw_all := lw_g (lw_at lw_m11 13 rfl) rfl
theorem q2511 : (Jvm.Cond.code ({ cls := "java/util/LinkedHashMap", name := "get", desc := "(Ljava/lang/Object;)Ljava/lang/Object;" } : Jvm.MethodName) prog_57_method_20_code (3 : Nat) (Option.some (Jvm.ClassFile.FieldType.object "java/lang/Object"))) ∈ lw_all := lw_g (lw_at lw_m11 14 rfl) rfl
theorem q2512 : (Jvm.Cond.methodLink "java/util/LinkedHashMap" (99 : Nat) ({ cls := "java/util/LinkedHashMap", name := "getNode", desc := "(Ljava/lang/Object;)Ljava/util/HashMap$Node;" } : Jvm.MethodName)) ∈ lw_all := lw_g (lw_at lw_m11 15 rfl) rfl
theorem q2513 : (Jvm.Cond.sameMethod "java/util/LinkedHashMap" "java/util/HashMap" "getNode" "(Ljava/lang/Object;)Ljava/util/HashMap$Node;") ∈ lw_all := lw_g (lw_at lw_m11 16 rfl) rfl
theorem q2515 : (Jvm.Cond.selects "java/util/LinkedHashMap" ({ cls := "java/util/LinkedHashMap", name := "getNode", desc := "(Ljava/lang/Object;)Ljava/util/HashMap$Node;" } : Jvm.MethodName) ({ cls := "java/util/HashMap", name := "getNode", desc := "(Ljava/lang/Object;)Ljava/util/HashMap$Node;" } : Jvm.MethodName)) ∈ lw_all := lw_g (lw_at lw_m11 18 rfl) rfl
theorem q2516 : (Jvm.Cond.methodLink "java/util/LinkedHashMap" (103 : Nat) ({ cls := "java/util/LinkedHashMap", name := "afterNodeAccess", desc := "(Ljava/util/HashMap$Node;)V" } : Jvm.MethodName)) ∈ lw_all := lw_g (lw_at lw_m11 19 rfl) rfl
theorem q3157 : (Jvm.Cond.selects "java/util/LinkedHashMap" ({ cls := "java/util/HashMap", name := "containsKey", desc := "(Ljava/lang/Object;)Z" } : Jvm.MethodName) ({ cls := "java/util/HashMap", name := "containsKey", desc := "(Ljava/lang/Object;)Z" } : Jvm.MethodName)) ∈ lw_all := lw_g (lw_at lw_m13 180 rfl) rfl
theorem q3158 : (Jvm.Cond.selects "java/util/LinkedHashMap" ({ cls := "java/util/LinkedHashMap", name := "keySet", desc := "()Ljava/util/Set;" } : Jvm.MethodName) ({ cls := "java/util/LinkedHashMap", name := "keySet", desc := "()Ljava/util/Set;" } : Jvm.MethodName)) ∈ lw_all := lw_g (lw_at lw_m13 181 rfl) rfl
theorem q3159 : (Jvm.Cond.selects "java/util/LinkedHashMap" ({ cls := "java/util/LinkedHashMap", name := "afterNodeAccess", desc := "(Ljava/util/HashMap$Node;)V" } : Jvm.MethodName) ({ cls := "java/util/LinkedHashMap", name := "afterNodeAccess", desc := "(Ljava/util/HashMap$Node;)V" } : Jvm.MethodName)) ∈ lw_all := lw_g (lw_at lw_m13 182 rfl) rfl
theorem q3176 : (Jvm.Cond.castable "java/util/LinkedHashMap" "java/lang/Object") ∈ lw_tbl := lw_at lw_m13 199 rfl
theorem in_J5 : ∀ w ∈ wsJ50, w ∈ lw_all := lw_in wsJ50 [260, 262, 264, 266, 268, 270, 272, 274, 252, 254, 256, 258] (by decide +kernel) (by decide +kernel)
/-! java/util/ArrayDeque -/
set_option maxRecDepth 100000
def RJ6 : String := "java/util/ArrayDeque"
def TJ6 : u_T := fun k => match k with
  | 0 => ("java/util/ArrayDeque", "elements", "[Ljava/lang/Object;", false)
  | 1 => ("java/util/ArrayDeque", "head", "I", false)
  | _ => ("java/util/ArrayDeque", "tail", "I", false)
def tyJ6 : Nat → FieldType := fun k => match k with
  | 0 => .array (.object "java/lang/Object")
  | 1 => .int
  | _ => .int
abbrev wsJ60 : List Cond := u_ws RJ6 TJ6 3
theorem nmJ6 : ∀ a, a < 3 → ∀ b, b < 3 → a ≠ b → (TJ6 a).2.1 ≠ (TJ6 b).2.1 := by decide +kernel
theorem tyJ6_ok : ∀ k, k < 3 → parseFieldDescriptor (TJ6 k).2.2.1 = some (tyJ6 k) := by decide +kernel
abbrev cJ6_init : ByteArray := prog_41_method_3_code
def yJ6_init : MethodName := ⟨RJ6, "<init>", "()V"⟩
def dkwJ6_init_0 : List UInt8 := [42, 183, 0, 42, 42, 16, 17, 189, 0, 47, 181, 0, 3, 177]
abbrev dktJ6_init_0 : List UInt8 := dkwJ6_init_0 ++ []
theorem dksJ6_init_0 : cJ6_init.data.toList.drop 0 = dktJ6_init_0 := by decide +kernel
theorem dJ6_init_0 : decode cJ6_init 0 = .ok (.aload_n 0, 1) := dk_42 (dk_at dksJ6_init_0 0 rfl rfl)
theorem dJ6_init_1 : decode cJ6_init 1 = .ok (.invokespecial 42, 3) := dk_183 0 42 (dk_at dksJ6_init_0 1 rfl rfl)
theorem dJ6_init_4 : decode cJ6_init 4 = .ok (.aload_n 0, 1) := dk_42 (dk_at dksJ6_init_0 4 rfl rfl)
theorem dJ6_init_5 : decode cJ6_init 5 = .ok (.bipush 17, 2) := dk_16 17 (dk_at dksJ6_init_0 5 rfl rfl)
theorem dJ6_init_7 : decode cJ6_init 7 = .ok (.anewarray 47, 3) := dk_189 0 47 (dk_at dksJ6_init_0 7 rfl rfl)
theorem dJ6_init_10 : decode cJ6_init 10 = .ok (.putfield 3, 3) := dk_181 0 3 (dk_at dksJ6_init_0 10 rfl rfl)
theorem dJ6_init_13 : decode cJ6_init 13 = .ok (.return_, 1) := dk_177 (dk_at dksJ6_init_0 13 rfl rfl)
abbrev cJ6_isEmpty : ByteArray := prog_41_method_38_code
def yJ6_isEmpty : MethodName := ⟨RJ6, "isEmpty", "()Z"⟩
def dkwJ6_isEmpty_0 : List UInt8 := [42, 180, 0, 24, 42, 180, 0, 20, 160, 0, 7, 4, 167, 0, 4, 3, 172]
abbrev dktJ6_isEmpty_0 : List UInt8 := dkwJ6_isEmpty_0 ++ []
theorem dksJ6_isEmpty_0 : cJ6_isEmpty.data.toList.drop 0 = dktJ6_isEmpty_0 := by decide +kernel
theorem dJ6_isEmpty_0 : decode cJ6_isEmpty 0 = .ok (.aload_n 0, 1) := dk_42 (dk_at dksJ6_isEmpty_0 0 rfl rfl)
theorem dJ6_isEmpty_1 : decode cJ6_isEmpty 1 = .ok (.getfield 24, 3) := dk_180 0 24 (dk_at dksJ6_isEmpty_0 1 rfl rfl)
theorem dJ6_isEmpty_4 : decode cJ6_isEmpty 4 = .ok (.aload_n 0, 1) := dk_42 (dk_at dksJ6_isEmpty_0 4 rfl rfl)
theorem dJ6_isEmpty_5 : decode cJ6_isEmpty 5 = .ok (.getfield 20, 3) := dk_180 0 20 (dk_at dksJ6_isEmpty_0 5 rfl rfl)
theorem dJ6_isEmpty_8 : decode cJ6_isEmpty 8 = .ok (.if_icmp .ne 7, 3) := dk_160 0 7 (dk_at dksJ6_isEmpty_0 8 rfl rfl)
theorem dJ6_isEmpty_11 : decode cJ6_isEmpty 11 = .ok (.iconst 1, 1) := dk_4 (dk_at dksJ6_isEmpty_0 11 rfl rfl)
theorem dJ6_isEmpty_12 : decode cJ6_isEmpty 12 = .ok (.goto 4, 3) := dk_167 0 4 (dk_at dksJ6_isEmpty_0 12 rfl rfl)
theorem dJ6_isEmpty_15 : decode cJ6_isEmpty 15 = .ok (.iconst 0, 1) := dk_3 (dk_at dksJ6_isEmpty_0 15 rfl rfl)
theorem dJ6_isEmpty_16 : decode cJ6_isEmpty 16 = .ok (.ireturn, 1) := dk_172 (dk_at dksJ6_isEmpty_0 16 rfl rfl)
abbrev cJ6_inc : ByteArray := prog_41_method_6_code
def yJ6_inc : MethodName := ⟨RJ6, "inc", "(II)I"⟩
def dkwJ6_inc_0 : List UInt8 := [132, 0, 1, 26, 27, 161, 0, 5, 3, 59, 26, 172]
abbrev dktJ6_inc_0 : List UInt8 := dkwJ6_inc_0 ++ []
theorem dksJ6_inc_0 : cJ6_inc.data.toList.drop 0 = dktJ6_inc_0 := by decide +kernel
theorem dJ6_inc_0 : decode cJ6_inc 0 = .ok (.iinc 0 1, 3) := dk_132 0 1 (dk_at dksJ6_inc_0 0 rfl rfl)
theorem dJ6_inc_3 : decode cJ6_inc 3 = .ok (.iload_n 0, 1) := dk_26 (dk_at dksJ6_inc_0 3 rfl rfl)
theorem dJ6_inc_4 : decode cJ6_inc 4 = .ok (.iload_n 1, 1) := dk_27 (dk_at dksJ6_inc_0 4 rfl rfl)
theorem dJ6_inc_5 : decode cJ6_inc 5 = .ok (.if_icmp .lt 5, 3) := dk_161 0 5 (dk_at dksJ6_inc_0 5 rfl rfl)
theorem dJ6_inc_8 : decode cJ6_inc 8 = .ok (.iconst 0, 1) := dk_3 (dk_at dksJ6_inc_0 8 rfl rfl)
theorem dJ6_inc_9 : decode cJ6_inc 9 = .ok (.istore_n 0, 1) := dk_59 (dk_at dksJ6_inc_0 9 rfl rfl)
theorem dJ6_inc_10 : decode cJ6_inc 10 = .ok (.iload_n 0, 1) := dk_26 (dk_at dksJ6_inc_0 10 rfl rfl)
theorem dJ6_inc_11 : decode cJ6_inc 11 = .ok (.ireturn, 1) := dk_172 (dk_at dksJ6_inc_0 11 rfl rfl)
abbrev cJ6_pollFirst : ByteArray := prog_41_method_20_code
def yJ6_pollFirst : MethodName := ⟨RJ6, "pollFirst", "()Ljava/lang/Object;"⟩
def dkwJ6_pollFirst_1 : List UInt8 := [42, 28, 43, 190, 184, 0, 74, 181, 0, 24, 45, 176]
abbrev dktJ6_pollFirst_1 : List UInt8 := dkwJ6_pollFirst_1 ++ []
def dkwJ6_pollFirst_0 : List UInt8 := [42, 180, 0, 3, 89, 76, 42, 180, 0, 24, 89, 61, 184, 0, 103, 78, 45, 198, 0, 17, 43, 28, 1, 83]
abbrev dktJ6_pollFirst_0 : List UInt8 := dkwJ6_pollFirst_0 ++ dktJ6_pollFirst_1
theorem dksJ6_pollFirst_0 : cJ6_pollFirst.data.toList.drop 0 = dktJ6_pollFirst_0 := by decide +kernel
theorem dksJ6_pollFirst_1 : cJ6_pollFirst.data.toList.drop 24 = dktJ6_pollFirst_1 := dk_seg dksJ6_pollFirst_0 24 rfl rfl
theorem dJ6_pollFirst_0 : decode cJ6_pollFirst 0 = .ok (.aload_n 0, 1) := dk_42 (dk_at dksJ6_pollFirst_0 0 rfl rfl)
theorem dJ6_pollFirst_1 : decode cJ6_pollFirst 1 = .ok (.getfield 3, 3) := dk_180 0 3 (dk_at dksJ6_pollFirst_0 1 rfl rfl)
theorem dJ6_pollFirst_4 : decode cJ6_pollFirst 4 = .ok (.dup, 1) := dk_89 (dk_at dksJ6_pollFirst_0 4 rfl rfl)
theorem dJ6_pollFirst_5 : decode cJ6_pollFirst 5 = .ok (.astore_n 1, 1) := dk_76 (dk_at dksJ6_pollFirst_0 5 rfl rfl)
theorem dJ6_pollFirst_6 : decode cJ6_pollFirst 6 = .ok (.aload_n 0, 1) := dk_42 (dk_at dksJ6_pollFirst_0 6 rfl rfl)
theorem dJ6_pollFirst_7 : decode cJ6_pollFirst 7 = .ok (.getfield 24, 3) := dk_180 0 24 (dk_at dksJ6_pollFirst_0 7 rfl rfl)
theorem dJ6_pollFirst_10 : decode cJ6_pollFirst 10 = .ok (.dup, 1) := dk_89 (dk_at dksJ6_pollFirst_0 10 rfl rfl)
theorem dJ6_pollFirst_11 : decode cJ6_pollFirst 11 = .ok (.istore_n 2, 1) := dk_61 (dk_at dksJ6_pollFirst_0 11 rfl rfl)
theorem dJ6_pollFirst_12 : decode cJ6_pollFirst 12 = .ok (.invokestatic 103, 3) := dk_184 0 103 (dk_at dksJ6_pollFirst_0 12 rfl rfl)
theorem dJ6_pollFirst_15 : decode cJ6_pollFirst 15 = .ok (.astore_n 3, 1) := dk_78 (dk_at dksJ6_pollFirst_0 15 rfl rfl)
theorem dJ6_pollFirst_16 : decode cJ6_pollFirst 16 = .ok (.aload_n 3, 1) := dk_45 (dk_at dksJ6_pollFirst_0 16 rfl rfl)
theorem dJ6_pollFirst_17 : decode cJ6_pollFirst 17 = .ok (.ifnull 17, 3) := dk_198 0 17 (dk_at dksJ6_pollFirst_0 17 rfl rfl)
theorem dJ6_pollFirst_20 : decode cJ6_pollFirst 20 = .ok (.aload_n 1, 1) := dk_43 (dk_at dksJ6_pollFirst_0 20 rfl rfl)
theorem dJ6_pollFirst_21 : decode cJ6_pollFirst 21 = .ok (.iload_n 2, 1) := dk_28 (dk_at dksJ6_pollFirst_0 21 rfl rfl)
theorem dJ6_pollFirst_22 : decode cJ6_pollFirst 22 = .ok (.aconst_null, 1) := dk_1 (dk_at dksJ6_pollFirst_0 22 rfl rfl)
theorem dJ6_pollFirst_23 : decode cJ6_pollFirst 23 = .ok (.aastore, 1) := dk_83 (dk_at dksJ6_pollFirst_0 23 rfl rfl)
theorem dJ6_pollFirst_24 : decode cJ6_pollFirst 24 = .ok (.aload_n 0, 1) := dk_42 (dk_at dksJ6_pollFirst_1 0 rfl rfl)
theorem dJ6_pollFirst_25 : decode cJ6_pollFirst 25 = .ok (.iload_n 2, 1) := dk_28 (dk_at dksJ6_pollFirst_1 1 rfl rfl)
theorem dJ6_pollFirst_26 : decode cJ6_pollFirst 26 = .ok (.aload_n 1, 1) := dk_43 (dk_at dksJ6_pollFirst_1 2 rfl rfl)
theorem dJ6_pollFirst_27 : decode cJ6_pollFirst 27 = .ok (.arraylength, 1) := dk_190 (dk_at dksJ6_pollFirst_1 3 rfl rfl)
theorem dJ6_pollFirst_28 : decode cJ6_pollFirst 28 = .ok (.invokestatic 74, 3) := dk_184 0 74 (dk_at dksJ6_pollFirst_1 4 rfl rfl)
theorem dJ6_pollFirst_31 : decode cJ6_pollFirst 31 = .ok (.putfield 24, 3) := dk_181 0 24 (dk_at dksJ6_pollFirst_1 7 rfl rfl)
theorem dJ6_pollFirst_34 : decode cJ6_pollFirst 34 = .ok (.aload_n 3, 1) := dk_45 (dk_at dksJ6_pollFirst_1 10 rfl rfl)
theorem dJ6_pollFirst_35 : decode cJ6_pollFirst 35 = .ok (.areturn, 1) := dk_176 (dk_at dksJ6_pollFirst_1 11 rfl rfl)
abbrev cJ6_elementAt : ByteArray := prog_41_method_10_code
def yJ6_elementAt : MethodName := ⟨RJ6, "elementAt", "([Ljava/lang/Object;I)Ljava/lang/Object;"⟩
def dkwJ6_elementAt_0 : List UInt8 := [42, 27, 50, 176]
abbrev dktJ6_elementAt_0 : List UInt8 := dkwJ6_elementAt_0 ++ []
theorem dksJ6_elementAt_0 : cJ6_elementAt.data.toList.drop 0 = dktJ6_elementAt_0 := by decide +kernel
theorem dJ6_elementAt_0 : decode cJ6_elementAt 0 = .ok (.aload_n 0, 1) := dk_42 (dk_at dksJ6_elementAt_0 0 rfl rfl)
theorem dJ6_elementAt_1 : decode cJ6_elementAt 1 = .ok (.iload_n 1, 1) := dk_27 (dk_at dksJ6_elementAt_0 1 rfl rfl)
theorem dJ6_elementAt_2 : decode cJ6_elementAt 2 = .ok (.aaload, 1) := dk_50 (dk_at dksJ6_elementAt_0 2 rfl rfl)
theorem dJ6_elementAt_3 : decode cJ6_elementAt 3 = .ok (.areturn, 1) := dk_176 (dk_at dksJ6_elementAt_0 3 rfl rfl)
abbrev cJ6_size : ByteArray := prog_41_method_37_code
def yJ6_size : MethodName := ⟨RJ6, "size", "()I"⟩
def dkwJ6_size_0 : List UInt8 := [42, 180, 0, 20, 42, 180, 0, 24, 42, 180, 0, 3, 190, 184, 0, 127, 172]
abbrev dktJ6_size_0 : List UInt8 := dkwJ6_size_0 ++ []
theorem dksJ6_size_0 : cJ6_size.data.toList.drop 0 = dktJ6_size_0 := by decide +kernel
theorem dJ6_size_0 : decode cJ6_size 0 = .ok (.aload_n 0, 1) := dk_42 (dk_at dksJ6_size_0 0 rfl rfl)
theorem dJ6_size_1 : decode cJ6_size 1 = .ok (.getfield 20, 3) := dk_180 0 20 (dk_at dksJ6_size_0 1 rfl rfl)
theorem dJ6_size_4 : decode cJ6_size 4 = .ok (.aload_n 0, 1) := dk_42 (dk_at dksJ6_size_0 4 rfl rfl)
theorem dJ6_size_5 : decode cJ6_size 5 = .ok (.getfield 24, 3) := dk_180 0 24 (dk_at dksJ6_size_0 5 rfl rfl)
theorem dJ6_size_8 : decode cJ6_size 8 = .ok (.aload_n 0, 1) := dk_42 (dk_at dksJ6_size_0 8 rfl rfl)
theorem dJ6_size_9 : decode cJ6_size 9 = .ok (.getfield 3, 3) := dk_180 0 3 (dk_at dksJ6_size_0 9 rfl rfl)
theorem dJ6_size_12 : decode cJ6_size 12 = .ok (.arraylength, 1) := dk_190 (dk_at dksJ6_size_0 12 rfl rfl)
theorem dJ6_size_13 : decode cJ6_size 13 = .ok (.invokestatic 127, 3) := dk_184 0 127 (dk_at dksJ6_size_0 13 rfl rfl)
theorem dJ6_size_16 : decode cJ6_size 16 = .ok (.ireturn, 1) := dk_172 (dk_at dksJ6_size_0 16 rfl rfl)
abbrev cJ6_sub : ByteArray := prog_41_method_9_code
def yJ6_sub : MethodName := ⟨RJ6, "sub", "(III)I"⟩
def dkwJ6_sub_0 : List UInt8 := [26, 27, 100, 89, 59, 156, 0, 7, 26, 28, 96, 59, 26, 172]
abbrev dktJ6_sub_0 : List UInt8 := dkwJ6_sub_0 ++ []
theorem dksJ6_sub_0 : cJ6_sub.data.toList.drop 0 = dktJ6_sub_0 := by decide +kernel
theorem dJ6_sub_0 : decode cJ6_sub 0 = .ok (.iload_n 0, 1) := dk_26 (dk_at dksJ6_sub_0 0 rfl rfl)
theorem dJ6_sub_1 : decode cJ6_sub 1 = .ok (.iload_n 1, 1) := dk_27 (dk_at dksJ6_sub_0 1 rfl rfl)
theorem dJ6_sub_2 : decode cJ6_sub 2 = .ok (.isub, 1) := dk_100 (dk_at dksJ6_sub_0 2 rfl rfl)
theorem dJ6_sub_3 : decode cJ6_sub 3 = .ok (.dup, 1) := dk_89 (dk_at dksJ6_sub_0 3 rfl rfl)
theorem dJ6_sub_4 : decode cJ6_sub 4 = .ok (.istore_n 0, 1) := dk_59 (dk_at dksJ6_sub_0 4 rfl rfl)
theorem dJ6_sub_5 : decode cJ6_sub 5 = .ok (.ifCond .ge 7, 3) := dk_156 0 7 (dk_at dksJ6_sub_0 5 rfl rfl)
theorem dJ6_sub_8 : decode cJ6_sub 8 = .ok (.iload_n 0, 1) := dk_26 (dk_at dksJ6_sub_0 8 rfl rfl)
theorem dJ6_sub_9 : decode cJ6_sub 9 = .ok (.iload_n 2, 1) := dk_28 (dk_at dksJ6_sub_0 9 rfl rfl)
theorem dJ6_sub_10 : decode cJ6_sub 10 = .ok (.iadd, 1) := dk_96 (dk_at dksJ6_sub_0 10 rfl rfl)
theorem dJ6_sub_11 : decode cJ6_sub 11 = .ok (.istore_n 0, 1) := dk_59 (dk_at dksJ6_sub_0 11 rfl rfl)
theorem dJ6_sub_12 : decode cJ6_sub 12 = .ok (.iload_n 0, 1) := dk_26 (dk_at dksJ6_sub_0 12 rfl rfl)
theorem dJ6_sub_13 : decode cJ6_sub 13 = .ok (.ireturn, 1) := dk_172 (dk_at dksJ6_sub_0 13 rfl rfl)
abbrev cJ6_addLast : ByteArray := prog_41_method_13_code
def yJ6_addLast : MethodName := ⟨RJ6, "addLast", "(Ljava/lang/Object;)V"⟩
def dkwJ6_addLast_2 : List UInt8 := [182, 0, 71, 177]
abbrev dktJ6_addLast_2 : List UInt8 := dkwJ6_addLast_2 ++ []
def dkwJ6_addLast_1 : List UInt8 := [42, 180, 0, 24, 42, 42, 180, 0, 20, 44, 190, 184, 0, 74, 90, 181, 0, 20, 160, 0, 8, 42, 4]
abbrev dktJ6_addLast_1 : List UInt8 := dkwJ6_addLast_1 ++ dktJ6_addLast_2
def dkwJ6_addLast_0 : List UInt8 := [43, 199, 0, 11, 187, 0, 65, 89, 183, 0, 67, 191, 42, 180, 0, 3, 77, 44, 42, 180, 0, 20, 43, 83]
abbrev dktJ6_addLast_0 : List UInt8 := dkwJ6_addLast_0 ++ dktJ6_addLast_1
theorem dksJ6_addLast_0 : cJ6_addLast.data.toList.drop 0 = dktJ6_addLast_0 := by decide +kernel
theorem dksJ6_addLast_1 : cJ6_addLast.data.toList.drop 24 = dktJ6_addLast_1 := dk_seg dksJ6_addLast_0 24 rfl rfl
theorem dksJ6_addLast_2 : cJ6_addLast.data.toList.drop 47 = dktJ6_addLast_2 := dk_seg dksJ6_addLast_1 23 rfl rfl
theorem dJ6_addLast_0 : decode cJ6_addLast 0 = .ok (.aload_n 1, 1) := dk_43 (dk_at dksJ6_addLast_0 0 rfl rfl)
theorem dJ6_addLast_1 : decode cJ6_addLast 1 = .ok (.ifnonnull 11, 3) := dk_199 0 11 (dk_at dksJ6_addLast_0 1 rfl rfl)
theorem dJ6_addLast_4 : decode cJ6_addLast 4 = .ok (.new 65, 3) := dk_187 0 65 (dk_at dksJ6_addLast_0 4 rfl rfl)
theorem dJ6_addLast_7 : decode cJ6_addLast 7 = .ok (.dup, 1) := dk_89 (dk_at dksJ6_addLast_0 7 rfl rfl)
theorem dJ6_addLast_8 : decode cJ6_addLast 8 = .ok (.invokespecial 67, 3) := dk_183 0 67 (dk_at dksJ6_addLast_0 8 rfl rfl)
theorem dJ6_addLast_11 : decode cJ6_addLast 11 = .ok (.athrow, 1) := dk_191 (dk_at dksJ6_addLast_0 11 rfl rfl)
theorem dJ6_addLast_12 : decode cJ6_addLast 12 = .ok (.aload_n 0, 1) := dk_42 (dk_at dksJ6_addLast_0 12 rfl rfl)
theorem dJ6_addLast_13 : decode cJ6_addLast 13 = .ok (.getfield 3, 3) := dk_180 0 3 (dk_at dksJ6_addLast_0 13 rfl rfl)
theorem dJ6_addLast_16 : decode cJ6_addLast 16 = .ok (.astore_n 2, 1) := dk_77 (dk_at dksJ6_addLast_0 16 rfl rfl)
theorem dJ6_addLast_17 : decode cJ6_addLast 17 = .ok (.aload_n 2, 1) := dk_44 (dk_at dksJ6_addLast_0 17 rfl rfl)
theorem dJ6_addLast_18 : decode cJ6_addLast 18 = .ok (.aload_n 0, 1) := dk_42 (dk_at dksJ6_addLast_0 18 rfl rfl)
theorem dJ6_addLast_19 : decode cJ6_addLast 19 = .ok (.getfield 20, 3) := dk_180 0 20 (dk_at dksJ6_addLast_0 19 rfl rfl)
theorem dJ6_addLast_22 : decode cJ6_addLast 22 = .ok (.aload_n 1, 1) := dk_43 (dk_at dksJ6_addLast_0 22 rfl rfl)
theorem dJ6_addLast_23 : decode cJ6_addLast 23 = .ok (.aastore, 1) := dk_83 (dk_at dksJ6_addLast_0 23 rfl rfl)
theorem dJ6_addLast_24 : decode cJ6_addLast 24 = .ok (.aload_n 0, 1) := dk_42 (dk_at dksJ6_addLast_1 0 rfl rfl)
theorem dJ6_addLast_25 : decode cJ6_addLast 25 = .ok (.getfield 24, 3) := dk_180 0 24 (dk_at dksJ6_addLast_1 1 rfl rfl)
theorem dJ6_addLast_28 : decode cJ6_addLast 28 = .ok (.aload_n 0, 1) := dk_42 (dk_at dksJ6_addLast_1 4 rfl rfl)
theorem dJ6_addLast_29 : decode cJ6_addLast 29 = .ok (.aload_n 0, 1) := dk_42 (dk_at dksJ6_addLast_1 5 rfl rfl)
theorem dJ6_addLast_30 : decode cJ6_addLast 30 = .ok (.getfield 20, 3) := dk_180 0 20 (dk_at dksJ6_addLast_1 6 rfl rfl)
theorem dJ6_addLast_33 : decode cJ6_addLast 33 = .ok (.aload_n 2, 1) := dk_44 (dk_at dksJ6_addLast_1 9 rfl rfl)
theorem dJ6_addLast_34 : decode cJ6_addLast 34 = .ok (.arraylength, 1) := dk_190 (dk_at dksJ6_addLast_1 10 rfl rfl)
theorem dJ6_addLast_35 : decode cJ6_addLast 35 = .ok (.invokestatic 74, 3) := dk_184 0 74 (dk_at dksJ6_addLast_1 11 rfl rfl)
theorem dJ6_addLast_38 : decode cJ6_addLast 38 = .ok (.dup_x1, 1) := dk_90 (dk_at dksJ6_addLast_1 14 rfl rfl)
theorem dJ6_addLast_39 : decode cJ6_addLast 39 = .ok (.putfield 20, 3) := dk_181 0 20 (dk_at dksJ6_addLast_1 15 rfl rfl)
theorem dJ6_addLast_42 : decode cJ6_addLast 42 = .ok (.if_icmp .ne 8, 3) := dk_160 0 8 (dk_at dksJ6_addLast_1 18 rfl rfl)
theorem dJ6_addLast_45 : decode cJ6_addLast 45 = .ok (.aload_n 0, 1) := dk_42 (dk_at dksJ6_addLast_1 21 rfl rfl)
theorem dJ6_addLast_46 : decode cJ6_addLast 46 = .ok (.iconst 1, 1) := dk_4 (dk_at dksJ6_addLast_1 22 rfl rfl)
theorem dJ6_addLast_47 : decode cJ6_addLast 47 = .ok (.invokevirtual 71, 3) := dk_182 0 71 (dk_at dksJ6_addLast_2 0 rfl rfl)
theorem dJ6_addLast_50 : decode cJ6_addLast 50 = .ok (.return_, 1) := dk_177 (dk_at dksJ6_addLast_2 3 rfl rfl)
abbrev cJ6_removeFirst : ByteArray := prog_41_method_18_code
def yJ6_removeFirst : MethodName := ⟨RJ6, "removeFirst", "()Ljava/lang/Object;"⟩
def dkwJ6_removeFirst_0 : List UInt8 := [42, 182, 0, 93, 76, 43, 199, 0, 11, 187, 0, 97, 89, 183, 0, 99, 191, 43, 176]
abbrev dktJ6_removeFirst_0 : List UInt8 := dkwJ6_removeFirst_0 ++ []
theorem dksJ6_removeFirst_0 : cJ6_removeFirst.data.toList.drop 0 = dktJ6_removeFirst_0 := by decide +kernel
theorem dJ6_removeFirst_0 : decode cJ6_removeFirst 0 = .ok (.aload_n 0, 1) := dk_42 (dk_at dksJ6_removeFirst_0 0 rfl rfl)
theorem dJ6_removeFirst_1 : decode cJ6_removeFirst 1 = .ok (.invokevirtual 93, 3) := dk_182 0 93 (dk_at dksJ6_removeFirst_0 1 rfl rfl)
theorem dJ6_removeFirst_4 : decode cJ6_removeFirst 4 = .ok (.astore_n 1, 1) := dk_76 (dk_at dksJ6_removeFirst_0 4 rfl rfl)
theorem dJ6_removeFirst_5 : decode cJ6_removeFirst 5 = .ok (.aload_n 1, 1) := dk_43 (dk_at dksJ6_removeFirst_0 5 rfl rfl)
theorem dJ6_removeFirst_6 : decode cJ6_removeFirst 6 = .ok (.ifnonnull 11, 3) := dk_199 0 11 (dk_at dksJ6_removeFirst_0 6 rfl rfl)
theorem dJ6_removeFirst_9 : decode cJ6_removeFirst 9 = .ok (.new 97, 3) := dk_187 0 97 (dk_at dksJ6_removeFirst_0 9 rfl rfl)
theorem dJ6_removeFirst_12 : decode cJ6_removeFirst 12 = .ok (.dup, 1) := dk_89 (dk_at dksJ6_removeFirst_0 12 rfl rfl)
theorem dJ6_removeFirst_13 : decode cJ6_removeFirst 13 = .ok (.invokespecial 99, 3) := dk_183 0 99 (dk_at dksJ6_removeFirst_0 13 rfl rfl)
theorem dJ6_removeFirst_16 : decode cJ6_removeFirst 16 = .ok (.athrow, 1) := dk_191 (dk_at dksJ6_removeFirst_0 16 rfl rfl)
theorem dJ6_removeFirst_17 : decode cJ6_removeFirst 17 = .ok (.aload_n 1, 1) := dk_43 (dk_at dksJ6_removeFirst_0 17 rfl rfl)
theorem dJ6_removeFirst_18 : decode cJ6_removeFirst 18 = .ok (.areturn, 1) := dk_176 (dk_at dksJ6_removeFirst_0 18 rfl rfl)
abbrev cJ6_removeLast : ByteArray := prog_41_method_19_code
def yJ6_removeLast : MethodName := ⟨RJ6, "removeLast", "()Ljava/lang/Object;"⟩
def dkwJ6_removeLast_0 : List UInt8 := [42, 182, 0, 100, 76, 43, 199, 0, 11, 187, 0, 97, 89, 183, 0, 99, 191, 43, 176]
abbrev dktJ6_removeLast_0 : List UInt8 := dkwJ6_removeLast_0 ++ []
theorem dksJ6_removeLast_0 : cJ6_removeLast.data.toList.drop 0 = dktJ6_removeLast_0 := by decide +kernel
theorem dJ6_removeLast_0 : decode cJ6_removeLast 0 = .ok (.aload_n 0, 1) := dk_42 (dk_at dksJ6_removeLast_0 0 rfl rfl)
theorem dJ6_removeLast_1 : decode cJ6_removeLast 1 = .ok (.invokevirtual 100, 3) := dk_182 0 100 (dk_at dksJ6_removeLast_0 1 rfl rfl)
theorem dJ6_removeLast_4 : decode cJ6_removeLast 4 = .ok (.astore_n 1, 1) := dk_76 (dk_at dksJ6_removeLast_0 4 rfl rfl)
theorem dJ6_removeLast_5 : decode cJ6_removeLast 5 = .ok (.aload_n 1, 1) := dk_43 (dk_at dksJ6_removeLast_0 5 rfl rfl)
theorem dJ6_removeLast_6 : decode cJ6_removeLast 6 = .ok (.ifnonnull 11, 3) := dk_199 0 11 (dk_at dksJ6_removeLast_0 6 rfl rfl)
theorem dJ6_removeLast_9 : decode cJ6_removeLast 9 = .ok (.new 97, 3) := dk_187 0 97 (dk_at dksJ6_removeLast_0 9 rfl rfl)
theorem dJ6_removeLast_12 : decode cJ6_removeLast 12 = .ok (.dup, 1) := dk_89 (dk_at dksJ6_removeLast_0 12 rfl rfl)
theorem dJ6_removeLast_13 : decode cJ6_removeLast 13 = .ok (.invokespecial 99, 3) := dk_183 0 99 (dk_at dksJ6_removeLast_0 13 rfl rfl)
theorem dJ6_removeLast_16 : decode cJ6_removeLast 16 = .ok (.athrow, 1) := dk_191 (dk_at dksJ6_removeLast_0 16 rfl rfl)
theorem dJ6_removeLast_17 : decode cJ6_removeLast 17 = .ok (.aload_n 1, 1) := dk_43 (dk_at dksJ6_removeLast_0 17 rfl rfl)
theorem dJ6_removeLast_18 : decode cJ6_removeLast 18 = .ok (.areturn, 1) := dk_176 (dk_at dksJ6_removeLast_0 18 rfl rfl)
abbrev cJ6_pollLast : ByteArray := prog_41_method_21_code
def yJ6_pollLast : MethodName := ⟨RJ6, "pollLast", "()Ljava/lang/Object;"⟩
def dkwJ6_pollLast_1 : List UInt8 := [198, 0, 12, 43, 42, 28, 90, 181, 0, 20, 1, 83, 45, 176]
abbrev dktJ6_pollLast_1 : List UInt8 := dkwJ6_pollLast_1 ++ []
def dkwJ6_pollLast_0 : List UInt8 := [42, 180, 0, 3, 89, 76, 42, 180, 0, 20, 43, 190, 184, 0, 68, 89, 61, 184, 0, 103, 78, 45]
abbrev dktJ6_pollLast_0 : List UInt8 := dkwJ6_pollLast_0 ++ dktJ6_pollLast_1
theorem dksJ6_pollLast_0 : cJ6_pollLast.data.toList.drop 0 = dktJ6_pollLast_0 := by decide +kernel
theorem dksJ6_pollLast_1 : cJ6_pollLast.data.toList.drop 22 = dktJ6_pollLast_1 := dk_seg dksJ6_pollLast_0 22 rfl rfl
theorem dJ6_pollLast_0 : decode cJ6_pollLast 0 = .ok (.aload_n 0, 1) := dk_42 (dk_at dksJ6_pollLast_0 0 rfl rfl)
theorem dJ6_pollLast_1 : decode cJ6_pollLast 1 = .ok (.getfield 3, 3) := dk_180 0 3 (dk_at dksJ6_pollLast_0 1 rfl rfl)
theorem dJ6_pollLast_4 : decode cJ6_pollLast 4 = .ok (.dup, 1) := dk_89 (dk_at dksJ6_pollLast_0 4 rfl rfl)
theorem dJ6_pollLast_5 : decode cJ6_pollLast 5 = .ok (.astore_n 1, 1) := dk_76 (dk_at dksJ6_pollLast_0 5 rfl rfl)
theorem dJ6_pollLast_6 : decode cJ6_pollLast 6 = .ok (.aload_n 0, 1) := dk_42 (dk_at dksJ6_pollLast_0 6 rfl rfl)
theorem dJ6_pollLast_7 : decode cJ6_pollLast 7 = .ok (.getfield 20, 3) := dk_180 0 20 (dk_at dksJ6_pollLast_0 7 rfl rfl)
theorem dJ6_pollLast_10 : decode cJ6_pollLast 10 = .ok (.aload_n 1, 1) := dk_43 (dk_at dksJ6_pollLast_0 10 rfl rfl)
theorem dJ6_pollLast_11 : decode cJ6_pollLast 11 = .ok (.arraylength, 1) := dk_190 (dk_at dksJ6_pollLast_0 11 rfl rfl)
theorem dJ6_pollLast_12 : decode cJ6_pollLast 12 = .ok (.invokestatic 68, 3) := dk_184 0 68 (dk_at dksJ6_pollLast_0 12 rfl rfl)
theorem dJ6_pollLast_15 : decode cJ6_pollLast 15 = .ok (.dup, 1) := dk_89 (dk_at dksJ6_pollLast_0 15 rfl rfl)
theorem dJ6_pollLast_16 : decode cJ6_pollLast 16 = .ok (.istore_n 2, 1) := dk_61 (dk_at dksJ6_pollLast_0 16 rfl rfl)
theorem dJ6_pollLast_17 : decode cJ6_pollLast 17 = .ok (.invokestatic 103, 3) := dk_184 0 103 (dk_at dksJ6_pollLast_0 17 rfl rfl)
theorem dJ6_pollLast_20 : decode cJ6_pollLast 20 = .ok (.astore_n 3, 1) := dk_78 (dk_at dksJ6_pollLast_0 20 rfl rfl)
theorem dJ6_pollLast_21 : decode cJ6_pollLast 21 = .ok (.aload_n 3, 1) := dk_45 (dk_at dksJ6_pollLast_0 21 rfl rfl)
theorem dJ6_pollLast_22 : decode cJ6_pollLast 22 = .ok (.ifnull 12, 3) := dk_198 0 12 (dk_at dksJ6_pollLast_1 0 rfl rfl)
theorem dJ6_pollLast_25 : decode cJ6_pollLast 25 = .ok (.aload_n 1, 1) := dk_43 (dk_at dksJ6_pollLast_1 3 rfl rfl)
theorem dJ6_pollLast_26 : decode cJ6_pollLast 26 = .ok (.aload_n 0, 1) := dk_42 (dk_at dksJ6_pollLast_1 4 rfl rfl)
theorem dJ6_pollLast_27 : decode cJ6_pollLast 27 = .ok (.iload_n 2, 1) := dk_28 (dk_at dksJ6_pollLast_1 5 rfl rfl)
theorem dJ6_pollLast_28 : decode cJ6_pollLast 28 = .ok (.dup_x1, 1) := dk_90 (dk_at dksJ6_pollLast_1 6 rfl rfl)
theorem dJ6_pollLast_29 : decode cJ6_pollLast 29 = .ok (.putfield 20, 3) := dk_181 0 20 (dk_at dksJ6_pollLast_1 7 rfl rfl)
theorem dJ6_pollLast_32 : decode cJ6_pollLast 32 = .ok (.aconst_null, 1) := dk_1 (dk_at dksJ6_pollLast_1 10 rfl rfl)
theorem dJ6_pollLast_33 : decode cJ6_pollLast 33 = .ok (.aastore, 1) := dk_83 (dk_at dksJ6_pollLast_1 11 rfl rfl)
theorem dJ6_pollLast_34 : decode cJ6_pollLast 34 = .ok (.aload_n 3, 1) := dk_45 (dk_at dksJ6_pollLast_1 12 rfl rfl)
theorem dJ6_pollLast_35 : decode cJ6_pollLast 35 = .ok (.areturn, 1) := dk_176 (dk_at dksJ6_pollLast_1 13 rfl rfl)
abbrev cJ6_dec : ByteArray := prog_41_method_7_code
def yJ6_dec : MethodName := ⟨RJ6, "dec", "(II)I"⟩
def dkwJ6_dec_0 : List UInt8 := [132, 0, 255, 26, 156, 0, 7, 27, 4, 100, 59, 26, 172]
abbrev dktJ6_dec_0 : List UInt8 := dkwJ6_dec_0 ++ []
theorem dksJ6_dec_0 : cJ6_dec.data.toList.drop 0 = dktJ6_dec_0 := by decide +kernel
theorem dJ6_dec_0 : decode cJ6_dec 0 = .ok (.iinc 0 (-1), 3) := dk_132 0 255 (dk_at dksJ6_dec_0 0 rfl rfl)
theorem dJ6_dec_3 : decode cJ6_dec 3 = .ok (.iload_n 0, 1) := dk_26 (dk_at dksJ6_dec_0 3 rfl rfl)
theorem dJ6_dec_4 : decode cJ6_dec 4 = .ok (.ifCond .ge 7, 3) := dk_156 0 7 (dk_at dksJ6_dec_0 4 rfl rfl)
theorem dJ6_dec_7 : decode cJ6_dec 7 = .ok (.iload_n 1, 1) := dk_27 (dk_at dksJ6_dec_0 7 rfl rfl)
theorem dJ6_dec_8 : decode cJ6_dec 8 = .ok (.iconst 1, 1) := dk_4 (dk_at dksJ6_dec_0 8 rfl rfl)
theorem dJ6_dec_9 : decode cJ6_dec 9 = .ok (.isub, 1) := dk_100 (dk_at dksJ6_dec_0 9 rfl rfl)
theorem dJ6_dec_10 : decode cJ6_dec 10 = .ok (.istore_n 0, 1) := dk_59 (dk_at dksJ6_dec_0 10 rfl rfl)
theorem dJ6_dec_11 : decode cJ6_dec 11 = .ok (.iload_n 0, 1) := dk_26 (dk_at dksJ6_dec_0 11 rfl rfl)
theorem dJ6_dec_12 : decode cJ6_dec 12 = .ok (.ireturn, 1) := dk_172 (dk_at dksJ6_dec_0 12 rfl rfl)
theorem q107 : (Jvm.Cond.initialized "java/util/ArrayDeque") ∈ lw_all := lw_g (lw_at lw_m1 10 rfl) rfl
theorem q309 : (Jvm.Cond.instantiable "java/util/ArrayDeque" (3 : Nat)) ∈ lw_all := lw_g (lw_at lw_m1 212 rfl) rfl
theorem q311 : (Jvm.Cond.instanceMethod ({ cls := "java/util/ArrayDeque", name := "<init>", desc := "()V" } : Jvm.MethodName)) ∈ lw_all := lw_g (lw_at lw_m1 214 rfl) rfl
theorem q312 : (Jvm.Cond.code ({ cls := "java/util/ArrayDeque", name := "<init>", desc := "()V" } : Jvm.MethodName) prog_41_method_3_code (1 : Nat) (Option.none : Option Jvm.ClassFile.FieldType)) ∈ lw_all := lw_g (lw_at lw_m1 215 rfl) rfl
theorem q313 : (Jvm.Cond.methodLink "java/util/ArrayDeque" (42 : Nat) ({ cls := "java/util/AbstractCollection", name := "<init>", desc := "()V" } : Jvm.MethodName)) ∈ lw_all := lw_g (lw_at lw_m1 216 rfl) rfl
theorem q314 : (Jvm.Cond.classLink "java/util/ArrayDeque" (47 : Nat) "java/lang/Object") ∈ lw_all := lw_g (lw_at lw_m1 217 rfl) rfl
theorem q316 : (Jvm.Cond.fieldLink "java/util/ArrayDeque" (3 : Nat) "java/util/ArrayDeque" "elements" "[Ljava/lang/Object;") ∈ lw_all := lw_g (lw_at lw_m1 219 rfl) rfl
theorem q319 : (Jvm.Cond.fieldLink "java/util/ArrayDeque" (24 : Nat) "java/util/ArrayDeque" "head" "I") ∈ lw_all := lw_g (lw_at lw_m1 222 rfl) rfl
theorem q320 : (Jvm.Cond.fieldLink "java/util/ArrayDeque" (20 : Nat) "java/util/ArrayDeque" "tail" "I") ∈ lw_all := lw_g (lw_at lw_m1 223 rfl) rfl
theorem q321 : (Jvm.Cond.lays "java/util/ArrayDeque" "java/util/ArrayDeque" "elements" "[Ljava/lang/Object;") ∈ lw_all := lw_g (lw_at lw_m1 224 rfl) rfl
theorem q322 : (Jvm.Cond.soleField "java/util/ArrayDeque" "elements") ∈ lw_all := lw_g (lw_at lw_m1 225 rfl) rfl
theorem q323 : (Jvm.Cond.lays "java/util/ArrayDeque" "java/util/ArrayDeque" "head" "I") ∈ lw_all := lw_g (lw_at lw_m1 226 rfl) rfl
theorem q324 : (Jvm.Cond.soleField "java/util/ArrayDeque" "head") ∈ lw_all := lw_g (lw_at lw_m1 227 rfl) rfl
theorem q325 : (Jvm.Cond.lays "java/util/ArrayDeque" "java/util/ArrayDeque" "tail" "I") ∈ lw_all := lw_g (lw_at lw_m1 228 rfl) rfl
theorem q326 : (Jvm.Cond.soleField "java/util/ArrayDeque" "tail") ∈ lw_all := lw_g (lw_at lw_m1 229 rfl) rfl
theorem q327 : (Jvm.Cond.superclass "java/util/ArrayDeque" "java/util/AbstractCollection") ∈ lw_all := lw_g (lw_at lw_m1 230 rfl) rfl
theorem q500 : (Jvm.Cond.instanceMethod ({ cls := "java/util/ArrayDeque", name := "isEmpty", desc := "()Z" } : Jvm.MethodName)) ∈ lw_all := lw_g (lw_at lw_m2 163 rfl) rfl
theorem q501 : (Jvm.Cond.selects "java/util/ArrayDeque" ({ cls := "java/util/ArrayDeque", name := "isEmpty", desc := "()Z" } : Jvm.MethodName) ({ cls := "java/util/ArrayDeque", name := "isEmpty", desc := "()Z" } : Jvm.MethodName)) ∈ lw_all := lw_g (lw_at lw_m2 164 rfl) rfl
theorem q502 : (Jvm.Cond.code ({ cls := "java/util/ArrayDeque", name := "isEmpty", desc := "()Z" } : Jvm.MethodName) prog_41_method_38_code (1 : Nat) (Option.some Jvm.ClassFile.FieldType.boolean)) ∈ lw_all := lw_g (lw_at lw_m2 165 rfl) rfl
theorem q519 : (Jvm.Cond.static ({ cls := "java/util/ArrayDeque", name := "nonNullElementAt", desc := "([Ljava/lang/Object;I)Ljava/lang/Object;" } : Jvm.MethodName)) ∈ lw_all := lw_g (lw_at lw_m2 182 rfl) rfl
theorem q520 : (Jvm.Cond.code ({ cls := "java/util/ArrayDeque", name := "nonNullElementAt", desc := "([Ljava/lang/Object;I)Ljava/lang/Object;" } : Jvm.MethodName) prog_41_method_11_code (3 : Nat) (Option.some (Jvm.ClassFile.FieldType.object "java/lang/Object"))) ∈ lw_all := lw_g (lw_at lw_m2 183 rfl) rfl
theorem q522 : (Jvm.Cond.static ({ cls := "java/util/ArrayDeque", name := "inc", desc := "(II)I" } : Jvm.MethodName)) ∈ lw_all := lw_g (lw_at lw_m2 185 rfl) rfl
theorem q523 : (Jvm.Cond.code ({ cls := "java/util/ArrayDeque", name := "inc", desc := "(II)I" } : Jvm.MethodName) prog_41_method_6_code (2 : Nat) (Option.some Jvm.ClassFile.FieldType.int)) ∈ lw_all := lw_g (lw_at lw_m2 186 rfl) rfl
theorem q568 : (Jvm.Cond.instanceMethod ({ cls := "java/util/ArrayDeque", name := "poll", desc := "()Ljava/lang/Object;" } : Jvm.MethodName)) ∈ lw_all := lw_g (lw_at lw_m2 231 rfl) rfl
theorem q569 : (Jvm.Cond.selects "java/util/ArrayDeque" ({ cls := "java/util/ArrayDeque", name := "poll", desc := "()Ljava/lang/Object;" } : Jvm.MethodName) ({ cls := "java/util/ArrayDeque", name := "poll", desc := "()Ljava/lang/Object;" } : Jvm.MethodName)) ∈ lw_all := lw_g (lw_at lw_m2 232 rfl) rfl
theorem q570 : (Jvm.Cond.code ({ cls := "java/util/ArrayDeque", name := "poll", desc := "()Ljava/lang/Object;" } : Jvm.MethodName) prog_41_method_31_code (1 : Nat) (Option.some (Jvm.ClassFile.FieldType.object "java/lang/Object"))) ∈ lw_all := lw_g (lw_at lw_m2 233 rfl) rfl
theorem q571 : (Jvm.Cond.methodLink "java/util/ArrayDeque" (93 : Nat) ({ cls := "java/util/ArrayDeque", name := "pollFirst", desc := "()Ljava/lang/Object;" } : Jvm.MethodName)) ∈ lw_all := lw_g (lw_at lw_m2 234 rfl) rfl
theorem q572 : (Jvm.Cond.instanceMethod ({ cls := "java/util/ArrayDeque", name := "pollFirst", desc := "()Ljava/lang/Object;" } : Jvm.MethodName)) ∈ lw_all := lw_g (lw_at lw_m2 235 rfl) rfl
theorem q573 : (Jvm.Cond.selects "java/util/ArrayDeque" ({ cls := "java/util/ArrayDeque", name := "pollFirst", desc := "()Ljava/lang/Object;" } : Jvm.MethodName) ({ cls := "java/util/ArrayDeque", name := "pollFirst", desc := "()Ljava/lang/Object;" } : Jvm.MethodName)) ∈ lw_all := lw_g (lw_at lw_m2 236 rfl) rfl
theorem q574 : (Jvm.Cond.code ({ cls := "java/util/ArrayDeque", name := "pollFirst", desc := "()Ljava/lang/Object;" } : Jvm.MethodName) prog_41_method_20_code (4 : Nat) (Option.some (Jvm.ClassFile.FieldType.object "java/lang/Object"))) ∈ lw_all := lw_g (lw_at lw_m2 237 rfl) rfl
theorem q575 : (Jvm.Cond.methodLink "java/util/ArrayDeque" (103 : Nat) ({ cls := "java/util/ArrayDeque", name := "elementAt", desc := "([Ljava/lang/Object;I)Ljava/lang/Object;" } : Jvm.MethodName)) ∈ lw_all := lw_g (lw_at lw_m2 238 rfl) rfl
theorem q576 : (Jvm.Cond.static ({ cls := "java/util/ArrayDeque", name := "elementAt", desc := "([Ljava/lang/Object;I)Ljava/lang/Object;" } : Jvm.MethodName)) ∈ lw_all := lw_g (lw_at lw_m2 239 rfl) rfl
theorem q577 : (Jvm.Cond.code ({ cls := "java/util/ArrayDeque", name := "elementAt", desc := "([Ljava/lang/Object;I)Ljava/lang/Object;" } : Jvm.MethodName) prog_41_method_10_code (2 : Nat) (Option.some (Jvm.ClassFile.FieldType.object "java/lang/Object"))) ∈ lw_all := lw_g (lw_at lw_m3 0 rfl) rfl
theorem q578 : (Jvm.Cond.methodLink "java/util/ArrayDeque" (74 : Nat) ({ cls := "java/util/ArrayDeque", name := "inc", desc := "(II)I" } : Jvm.MethodName)) ∈ lw_all := lw_g (lw_at lw_m3 1 rfl) rfl
theorem q691 : (Jvm.Cond.castable "java/util/ArrayDeque" "java/util/Collection") ∈ lw_tbl := lw_at lw_m3 114 rfl
theorem q692 : (Jvm.Cond.selects "java/util/ArrayDeque" ({ cls := "java/util/Collection", name := "iterator", desc := "()Ljava/util/Iterator;" } : Jvm.MethodName) ({ cls := "java/util/ArrayDeque", name := "iterator", desc := "()Ljava/util/Iterator;" } : Jvm.MethodName)) ∈ lw_all := lw_g (lw_at lw_m3 115 rfl) rfl
theorem q693 : (Jvm.Cond.unhidden "java/util/ArrayDeque" "iterator" "()Ljava/util/Iterator;") ∈ lw_tbl := lw_at lw_m3 116 rfl
theorem q694 : (Jvm.Cond.instanceMethod ({ cls := "java/util/ArrayDeque", name := "iterator", desc := "()Ljava/util/Iterator;" } : Jvm.MethodName)) ∈ lw_all := lw_g (lw_at lw_m3 117 rfl) rfl
theorem q695 : (Jvm.Cond.publicMethod ({ cls := "java/util/ArrayDeque", name := "iterator", desc := "()Ljava/util/Iterator;" } : Jvm.MethodName)) ∈ lw_tbl := lw_at lw_m3 118 rfl
theorem q696 : (Jvm.Cond.code ({ cls := "java/util/ArrayDeque", name := "iterator", desc := "()Ljava/util/Iterator;" } : Jvm.MethodName) prog_41_method_39_code (1 : Nat) (Option.some (Jvm.ClassFile.FieldType.object "java/util/Iterator"))) ∈ lw_all := lw_g (lw_at lw_m3 119 rfl) rfl
theorem q697 : (Jvm.Cond.classLink "java/util/ArrayDeque" (131 : Nat) "java/util/ArrayDeque$DeqIterator") ∈ lw_all := lw_g (lw_at lw_m3 120 rfl) rfl
theorem q699 : (Jvm.Cond.methodLink "java/util/ArrayDeque" (133 : Nat) ({ cls := "java/util/ArrayDeque$DeqIterator", name := "<init>", desc := "(Ljava/util/ArrayDeque;)V" } : Jvm.MethodName)) ∈ lw_all := lw_g (lw_at lw_m3 122 rfl) rfl
theorem q704 : (Jvm.Cond.instanceMethod ({ cls := "java/util/ArrayDeque", name := "size", desc := "()I" } : Jvm.MethodName)) ∈ lw_all := lw_g (lw_at lw_m3 127 rfl) rfl
theorem q705 : (Jvm.Cond.selects "java/util/ArrayDeque" ({ cls := "java/util/ArrayDeque", name := "size", desc := "()I" } : Jvm.MethodName) ({ cls := "java/util/ArrayDeque", name := "size", desc := "()I" } : Jvm.MethodName)) ∈ lw_all := lw_g (lw_at lw_m3 128 rfl) rfl
theorem q706 : (Jvm.Cond.code ({ cls := "java/util/ArrayDeque", name := "size", desc := "()I" } : Jvm.MethodName) prog_41_method_37_code (1 : Nat) (Option.some Jvm.ClassFile.FieldType.int)) ∈ lw_all := lw_g (lw_at lw_m3 129 rfl) rfl
theorem q707 : (Jvm.Cond.methodLink "java/util/ArrayDeque" (127 : Nat) ({ cls := "java/util/ArrayDeque", name := "sub", desc := "(III)I" } : Jvm.MethodName)) ∈ lw_all := lw_g (lw_at lw_m3 130 rfl) rfl
theorem q708 : (Jvm.Cond.static ({ cls := "java/util/ArrayDeque", name := "sub", desc := "(III)I" } : Jvm.MethodName)) ∈ lw_all := lw_g (lw_at lw_m3 131 rfl) rfl
theorem q709 : (Jvm.Cond.code ({ cls := "java/util/ArrayDeque", name := "sub", desc := "(III)I" } : Jvm.MethodName) prog_41_method_9_code (3 : Nat) (Option.some Jvm.ClassFile.FieldType.int)) ∈ lw_all := lw_g (lw_at lw_m3 132 rfl) rfl
theorem q1117 : (Jvm.Cond.selects "java/util/ArrayDeque" ({ cls := "java/lang/Object", name := "getClass", desc := "()Ljava/lang/Class;" } : Jvm.MethodName) ({ cls := "java/lang/Object", name := "getClass", desc := "()Ljava/lang/Class;" } : Jvm.MethodName)) ∈ lw_all := lw_g (lw_at lw_m5 60 rfl) rfl
theorem q1629 : (Jvm.Cond.instanceMethod ({ cls := "java/util/ArrayDeque", name := "addLast", desc := "(Ljava/lang/Object;)V" } : Jvm.MethodName)) ∈ lw_all := lw_g (lw_at lw_m7 92 rfl) rfl
theorem q1630 : (Jvm.Cond.selects "java/util/ArrayDeque" ({ cls := "java/util/ArrayDeque", name := "addLast", desc := "(Ljava/lang/Object;)V" } : Jvm.MethodName) ({ cls := "java/util/ArrayDeque", name := "addLast", desc := "(Ljava/lang/Object;)V" } : Jvm.MethodName)) ∈ lw_all := lw_g (lw_at lw_m7 93 rfl) rfl
theorem q1631 : (Jvm.Cond.code ({ cls := "java/util/ArrayDeque", name := "addLast", desc := "(Ljava/lang/Object;)V" } : Jvm.MethodName) prog_41_method_13_code (3 : Nat) (Option.none : Option Jvm.ClassFile.FieldType)) ∈ lw_all := lw_g (lw_at lw_m7 94 rfl) rfl
theorem q1632 : (Jvm.Cond.methodLink "java/util/ArrayDeque" (71 : Nat) ({ cls := "java/util/ArrayDeque", name := "grow", desc := "(I)V" } : Jvm.MethodName)) ∈ lw_all := lw_g (lw_at lw_m7 95 rfl) rfl
theorem q1633 : (Jvm.Cond.privateMethod ({ cls := "java/util/ArrayDeque", name := "grow", desc := "(I)V" } : Jvm.MethodName)) ∈ lw_tbl := lw_at lw_m7 96 rfl
theorem q1634 : (Jvm.Cond.instanceMethod ({ cls := "java/util/ArrayDeque", name := "grow", desc := "(I)V" } : Jvm.MethodName)) ∈ lw_all := lw_g (lw_at lw_m7 97 rfl) rfl
theorem q1635 : (Jvm.Cond.code ({ cls := "java/util/ArrayDeque", name := "grow", desc := "(I)V" } : Jvm.MethodName) prog_41_method_1_code (9 : Nat) (Option.none : Option Jvm.ClassFile.FieldType)) ∈ lw_all := lw_g (lw_at lw_m7 98 rfl) rfl
theorem q1636 : (Jvm.Cond.constant "java/util/ArrayDeque" (9 : Nat) (2147483639 : Int32)) ∈ lw_all := lw_g (lw_at lw_m7 99 rfl) rfl
theorem q1637 : (Jvm.Cond.methodLink "java/util/ArrayDeque" (10 : Nat) ({ cls := "java/util/ArrayDeque", name := "newCapacity", desc := "(II)I" } : Jvm.MethodName)) ∈ lw_all := lw_g (lw_at lw_m7 100 rfl) rfl
theorem q1638 : (Jvm.Cond.privateMethod ({ cls := "java/util/ArrayDeque", name := "newCapacity", desc := "(II)I" } : Jvm.MethodName)) ∈ lw_tbl := lw_at lw_m7 101 rfl
theorem q1639 : (Jvm.Cond.instanceMethod ({ cls := "java/util/ArrayDeque", name := "newCapacity", desc := "(II)I" } : Jvm.MethodName)) ∈ lw_all := lw_g (lw_at lw_m7 102 rfl) rfl
theorem q1640 : (Jvm.Cond.code ({ cls := "java/util/ArrayDeque", name := "newCapacity", desc := "(II)I" } : Jvm.MethodName) prog_41_method_2_code (5 : Nat) (Option.some Jvm.ClassFile.FieldType.int)) ∈ lw_all := lw_g (lw_at lw_m7 103 rfl) rfl
theorem q1641 : (Jvm.Cond.constant "java/util/ArrayDeque" (41 : Nat) (2147483647 : Int32)) ∈ lw_all := lw_g (lw_at lw_m7 104 rfl) rfl
theorem q1642 : (Jvm.Cond.methodLink "java/util/ArrayDeque" (14 : Nat) ({ cls := "java/util/Arrays", name := "copyOf", desc := "([Ljava/lang/Object;I)[Ljava/lang/Object;" } : Jvm.MethodName)) ∈ lw_all := lw_g (lw_at lw_m7 105 rfl) rfl
theorem q1643 : (Jvm.Cond.methodLink "java/util/ArrayDeque" (27 : Nat) ({ cls := "java/lang/System", name := "arraycopy", desc := "(Ljava/lang/Object;ILjava/lang/Object;II)V" } : Jvm.MethodName)) ∈ lw_all := lw_g (lw_at lw_m7 106 rfl) rfl
theorem q1646 : (Jvm.Cond.instanceMethod ({ cls := "java/util/ArrayDeque", name := "removeFirst", desc := "()Ljava/lang/Object;" } : Jvm.MethodName)) ∈ lw_all := lw_g (lw_at lw_m7 109 rfl) rfl
theorem q1647 : (Jvm.Cond.selects "java/util/ArrayDeque" ({ cls := "java/util/ArrayDeque", name := "removeFirst", desc := "()Ljava/lang/Object;" } : Jvm.MethodName) ({ cls := "java/util/ArrayDeque", name := "removeFirst", desc := "()Ljava/lang/Object;" } : Jvm.MethodName)) ∈ lw_all := lw_g (lw_at lw_m7 110 rfl) rfl
theorem q1648 : (Jvm.Cond.code ({ cls := "java/util/ArrayDeque", name := "removeFirst", desc := "()Ljava/lang/Object;" } : Jvm.MethodName) prog_41_method_18_code (2 : Nat) (Option.some (Jvm.ClassFile.FieldType.object "java/lang/Object"))) ∈ lw_all := lw_g (lw_at lw_m7 111 rfl) rfl
theorem q1805 : (Jvm.Cond.selects "java/util/ArrayDeque" ({ cls := "java/util/Collection", name := "contains", desc := "(Ljava/lang/Object;)Z" } : Jvm.MethodName) ({ cls := "java/util/ArrayDeque", name := "contains", desc := "(Ljava/lang/Object;)Z" } : Jvm.MethodName)) ∈ lw_all := lw_g (lw_at lw_m8 28 rfl) rfl
theorem q1806 : (Jvm.Cond.unhidden "java/util/ArrayDeque" "contains" "(Ljava/lang/Object;)Z") ∈ lw_tbl := lw_at lw_m8 29 rfl
theorem q1807 : (Jvm.Cond.instanceMethod ({ cls := "java/util/ArrayDeque", name := "contains", desc := "(Ljava/lang/Object;)Z" } : Jvm.MethodName)) ∈ lw_all := lw_g (lw_at lw_m8 30 rfl) rfl
theorem q1808 : (Jvm.Cond.publicMethod ({ cls := "java/util/ArrayDeque", name := "contains", desc := "(Ljava/lang/Object;)Z" } : Jvm.MethodName)) ∈ lw_tbl := lw_at lw_m8 31 rfl
theorem q1809 : (Jvm.Cond.code ({ cls := "java/util/ArrayDeque", name := "contains", desc := "(Ljava/lang/Object;)Z" } : Jvm.MethodName) prog_41_method_51_code (6 : Nat) (Option.some Jvm.ClassFile.FieldType.boolean)) ∈ lw_all := lw_g (lw_at lw_m8 32 rfl) rfl
theorem q1810 : (Jvm.Cond.methodLink "java/util/ArrayDeque" (107 : Nat) ({ cls := "java/lang/Object", name := "equals", desc := "(Ljava/lang/Object;)Z" } : Jvm.MethodName)) ∈ lw_all := lw_g (lw_at lw_m8 33 rfl) rfl
theorem q2531 : (Jvm.Cond.instanceMethod ({ cls := "java/util/ArrayDeque", name := "removeLast", desc := "()Ljava/lang/Object;" } : Jvm.MethodName)) ∈ lw_all := lw_g (lw_at lw_m11 34 rfl) rfl
theorem q2532 : (Jvm.Cond.selects "java/util/ArrayDeque" ({ cls := "java/util/ArrayDeque", name := "removeLast", desc := "()Ljava/lang/Object;" } : Jvm.MethodName) ({ cls := "java/util/ArrayDeque", name := "removeLast", desc := "()Ljava/lang/Object;" } : Jvm.MethodName)) ∈ lw_all := lw_g (lw_at lw_m11 35 rfl) rfl
theorem q2533 : (Jvm.Cond.code ({ cls := "java/util/ArrayDeque", name := "removeLast", desc := "()Ljava/lang/Object;" } : Jvm.MethodName) prog_41_method_19_code (2 : Nat) (Option.some (Jvm.ClassFile.FieldType.object "java/lang/Object"))) ∈ lw_all := lw_g (lw_at lw_m11 36 rfl) rfl
theorem q2534 : (Jvm.Cond.methodLink "java/util/ArrayDeque" (100 : Nat) ({ cls := "java/util/ArrayDeque", name := "pollLast", desc := "()Ljava/lang/Object;" } : Jvm.MethodName)) ∈ lw_all := lw_g (lw_at lw_m11 37 rfl) rfl
theorem q2535 : (Jvm.Cond.instanceMethod ({ cls := "java/util/ArrayDeque", name := "pollLast", desc := "()Ljava/lang/Object;" } : Jvm.MethodName)) ∈ lw_all := lw_g (lw_at lw_m11 38 rfl) rfl
theorem q2536 : (Jvm.Cond.selects "java/util/ArrayDeque" ({ cls := "java/util/ArrayDeque", name := "pollLast", desc := "()Ljava/lang/Object;" } : Jvm.MethodName) ({ cls := "java/util/ArrayDeque", name := "pollLast", desc := "()Ljava/lang/Object;" } : Jvm.MethodName)) ∈ lw_all := lw_g (lw_at lw_m11 39 rfl) rfl
theorem q2537 : (Jvm.Cond.code ({ cls := "java/util/ArrayDeque", name := "pollLast", desc := "()Ljava/lang/Object;" } : Jvm.MethodName) prog_41_method_21_code (4 : Nat) (Option.some (Jvm.ClassFile.FieldType.object "java/lang/Object"))) ∈ lw_all := lw_g (lw_at lw_m11 40 rfl) rfl
theorem q2538 : (Jvm.Cond.methodLink "java/util/ArrayDeque" (68 : Nat) ({ cls := "java/util/ArrayDeque", name := "dec", desc := "(II)I" } : Jvm.MethodName)) ∈ lw_all := lw_g (lw_at lw_m11 41 rfl) rfl
theorem q2539 : (Jvm.Cond.static ({ cls := "java/util/ArrayDeque", name := "dec", desc := "(II)I" } : Jvm.MethodName)) ∈ lw_all := lw_g (lw_at lw_m11 42 rfl) rfl
theorem q2540 : (Jvm.Cond.code ({ cls := "java/util/ArrayDeque", name := "dec", desc := "(II)I" } : Jvm.MethodName) prog_41_method_7_code (2 : Nat) (Option.some Jvm.ClassFile.FieldType.int)) ∈ lw_all := lw_g (lw_at lw_m11 43 rfl) rfl
theorem q3177 : (Jvm.Cond.castable "java/util/ArrayDeque" "java/lang/Object") ∈ lw_tbl := lw_at lw_m13 200 rfl
theorem in_J6 : ∀ w ∈ wsJ60, w ∈ lw_all := lw_in wsJ60 [321, 323, 325] (by decide +kernel) (by decide +kernel)
/-! java/lang/AbstractStringBuilder -/
set_option maxRecDepth 100000
def RJ7 : String := "java/lang/AbstractStringBuilder"
abbrev cJ7_init : ByteArray := prog_15_method_2_code
def yJ7_init : MethodName := ⟨RJ7, "<init>", "(I)V"⟩
def dkwJ7_init_1 : List UInt8 := [167, 0, 16, 42, 27, 184, 0, 26, 181, 0, 15, 42, 4, 181, 0, 22, 177]
abbrev dktJ7_init_1 : List UInt8 := dkwJ7_init_1 ++ []
def dkwJ7_init_0 : List UInt8 := [42, 183, 0, 3, 178, 0, 18, 153, 0, 18, 42, 27, 188, 8, 181, 0, 15, 42, 3, 181, 0, 22]
abbrev dktJ7_init_0 : List UInt8 := dkwJ7_init_0 ++ dktJ7_init_1
theorem dksJ7_init_0 : cJ7_init.data.toList.drop 0 = dktJ7_init_0 := by decide +kernel
theorem dksJ7_init_1 : cJ7_init.data.toList.drop 22 = dktJ7_init_1 := dk_seg dksJ7_init_0 22 rfl rfl
theorem dJ7_init_0 : decode cJ7_init 0 = .ok (.aload_n 0, 1) := dk_42 (dk_at dksJ7_init_0 0 rfl rfl)
theorem dJ7_init_1 : decode cJ7_init 1 = .ok (.invokespecial 3, 3) := dk_183 0 3 (dk_at dksJ7_init_0 1 rfl rfl)
theorem dJ7_init_4 : decode cJ7_init 4 = .ok (.getstatic 18, 3) := dk_178 0 18 (dk_at dksJ7_init_0 4 rfl rfl)
theorem dJ7_init_7 : decode cJ7_init 7 = .ok (.ifCond .eq 18, 3) := dk_153 0 18 (dk_at dksJ7_init_0 7 rfl rfl)
theorem dJ7_init_10 : decode cJ7_init 10 = .ok (.aload_n 0, 1) := dk_42 (dk_at dksJ7_init_0 10 rfl rfl)
theorem dJ7_init_11 : decode cJ7_init 11 = .ok (.iload_n 1, 1) := dk_27 (dk_at dksJ7_init_0 11 rfl rfl)
theorem dJ7_init_12 : decode cJ7_init 12 = .ok (.newarray .byte, 2) := dk_188_8 (dk_at dksJ7_init_0 12 rfl rfl)
theorem dJ7_init_14 : decode cJ7_init 14 = .ok (.putfield 15, 3) := dk_181 0 15 (dk_at dksJ7_init_0 14 rfl rfl)
theorem dJ7_init_17 : decode cJ7_init 17 = .ok (.aload_n 0, 1) := dk_42 (dk_at dksJ7_init_0 17 rfl rfl)
theorem dJ7_init_18 : decode cJ7_init 18 = .ok (.iconst 0, 1) := dk_3 (dk_at dksJ7_init_0 18 rfl rfl)
theorem dJ7_init_19 : decode cJ7_init 19 = .ok (.putfield 22, 3) := dk_181 0 22 (dk_at dksJ7_init_0 19 rfl rfl)
theorem dJ7_init_22 : decode cJ7_init 22 = .ok (.goto 16, 3) := dk_167 0 16 (dk_at dksJ7_init_1 0 rfl rfl)
theorem dJ7_init_25 : decode cJ7_init 25 = .ok (.aload_n 0, 1) := dk_42 (dk_at dksJ7_init_1 3 rfl rfl)
theorem dJ7_init_26 : decode cJ7_init 26 = .ok (.iload_n 1, 1) := dk_27 (dk_at dksJ7_init_1 4 rfl rfl)
theorem dJ7_init_27 : decode cJ7_init 27 = .ok (.invokestatic 26, 3) := dk_184 0 26 (dk_at dksJ7_init_1 5 rfl rfl)
theorem dJ7_init_30 : decode cJ7_init 30 = .ok (.putfield 15, 3) := dk_181 0 15 (dk_at dksJ7_init_1 8 rfl rfl)
theorem dJ7_init_33 : decode cJ7_init 33 = .ok (.aload_n 0, 1) := dk_42 (dk_at dksJ7_init_1 11 rfl rfl)
theorem dJ7_init_34 : decode cJ7_init 34 = .ok (.iconst 1, 1) := dk_4 (dk_at dksJ7_init_1 12 rfl rfl)
theorem dJ7_init_35 : decode cJ7_init 35 = .ok (.putfield 22, 3) := dk_181 0 22 (dk_at dksJ7_init_1 13 rfl rfl)
theorem dJ7_init_38 : decode cJ7_init 38 = .ok (.return_, 1) := dk_177 (dk_at dksJ7_init_1 16 rfl rfl)
abbrev cJ7_isLatin1 : ByteArray := prog_15_method_68_code
def yJ7_isLatin1 : MethodName := ⟨RJ7, "isLatin1", "()Z"⟩
def dkwJ7_isLatin1_0 : List UInt8 := [178, 0, 18, 153, 0, 14, 42, 180, 0, 22, 154, 0, 7, 4, 167, 0, 4, 3, 172]
abbrev dktJ7_isLatin1_0 : List UInt8 := dkwJ7_isLatin1_0 ++ []
theorem dksJ7_isLatin1_0 : cJ7_isLatin1.data.toList.drop 0 = dktJ7_isLatin1_0 := by decide +kernel
theorem dJ7_isLatin1_0 : decode cJ7_isLatin1 0 = .ok (.getstatic 18, 3) := dk_178 0 18 (dk_at dksJ7_isLatin1_0 0 rfl rfl)
theorem dJ7_isLatin1_3 : decode cJ7_isLatin1 3 = .ok (.ifCond .eq 14, 3) := dk_153 0 14 (dk_at dksJ7_isLatin1_0 3 rfl rfl)
theorem dJ7_isLatin1_6 : decode cJ7_isLatin1 6 = .ok (.aload_n 0, 1) := dk_42 (dk_at dksJ7_isLatin1_0 6 rfl rfl)
theorem dJ7_isLatin1_7 : decode cJ7_isLatin1 7 = .ok (.getfield 22, 3) := dk_180 0 22 (dk_at dksJ7_isLatin1_0 7 rfl rfl)
theorem dJ7_isLatin1_10 : decode cJ7_isLatin1 10 = .ok (.ifCond .ne 7, 3) := dk_154 0 7 (dk_at dksJ7_isLatin1_0 10 rfl rfl)
theorem dJ7_isLatin1_13 : decode cJ7_isLatin1 13 = .ok (.iconst 1, 1) := dk_4 (dk_at dksJ7_isLatin1_0 13 rfl rfl)
theorem dJ7_isLatin1_14 : decode cJ7_isLatin1 14 = .ok (.goto 4, 3) := dk_167 0 4 (dk_at dksJ7_isLatin1_0 14 rfl rfl)
theorem dJ7_isLatin1_17 : decode cJ7_isLatin1 17 = .ok (.iconst 0, 1) := dk_3 (dk_at dksJ7_isLatin1_0 17 rfl rfl)
theorem dJ7_isLatin1_18 : decode cJ7_isLatin1 18 = .ok (.ireturn, 1) := dk_172 (dk_at dksJ7_isLatin1_0 18 rfl rfl)
abbrev cJ7_length : ByteArray := prog_15_method_6_code
def yJ7_length : MethodName := ⟨RJ7, "length", "()I"⟩
theorem dJ7_length_0 : decode cJ7_length 0 = .ok (.aload_n 0, 1) := by decide +kernel
theorem dJ7_length_1 : decode cJ7_length 1 = .ok (.getfield 79, 3) := by decide +kernel
theorem dJ7_length_4 : decode cJ7_length 4 = .ok (.ireturn, 1) := by decide +kernel
abbrev cJ7_append : ByteArray := prog_15_method_31_code
def yJ7_append : MethodName := ⟨RJ7, "append", "(C)Ljava/lang/AbstractStringBuilder;"⟩
def dkwJ7_append_3 : List UInt8 := [181, 0, 79, 27, 184, 0, 197, 42, 176]
abbrev dktJ7_append_3 : List UInt8 := dkwJ7_append_3 ++ []
def dkwJ7_append_2 : List UInt8 := [182, 0, 83, 153, 0, 7, 42, 182, 0, 195, 42, 180, 0, 15, 42, 89, 180, 0, 79, 90, 4, 96]
abbrev dktJ7_append_2 : List UInt8 := dkwJ7_append_2 ++ dktJ7_append_3
def dkwJ7_append_1 : List UInt8 := [42, 180, 0, 15, 42, 89, 180, 0, 79, 90, 4, 96, 181, 0, 79, 27, 145, 84, 167, 0, 33, 42]
abbrev dktJ7_append_1 : List UInt8 := dkwJ7_append_1 ++ dktJ7_append_2
def dkwJ7_append_0 : List UInt8 := [42, 42, 180, 0, 79, 4, 96, 182, 0, 100, 42, 182, 0, 83, 153, 0, 31, 27, 184, 0, 191, 153, 0, 24]
abbrev dktJ7_append_0 : List UInt8 := dkwJ7_append_0 ++ dktJ7_append_1
theorem dksJ7_append_0 : cJ7_append.data.toList.drop 0 = dktJ7_append_0 := by decide +kernel
theorem dksJ7_append_1 : cJ7_append.data.toList.drop 24 = dktJ7_append_1 := dk_seg dksJ7_append_0 24 rfl rfl
theorem dksJ7_append_2 : cJ7_append.data.toList.drop 46 = dktJ7_append_2 := dk_seg dksJ7_append_1 22 rfl rfl
theorem dksJ7_append_3 : cJ7_append.data.toList.drop 68 = dktJ7_append_3 := dk_seg dksJ7_append_2 22 rfl rfl
theorem dJ7_append_0 : decode cJ7_append 0 = .ok (.aload_n 0, 1) := dk_42 (dk_at dksJ7_append_0 0 rfl rfl)
theorem dJ7_append_1 : decode cJ7_append 1 = .ok (.aload_n 0, 1) := dk_42 (dk_at dksJ7_append_0 1 rfl rfl)
theorem dJ7_append_2 : decode cJ7_append 2 = .ok (.getfield 79, 3) := dk_180 0 79 (dk_at dksJ7_append_0 2 rfl rfl)
theorem dJ7_append_5 : decode cJ7_append 5 = .ok (.iconst 1, 1) := dk_4 (dk_at dksJ7_append_0 5 rfl rfl)
theorem dJ7_append_6 : decode cJ7_append 6 = .ok (.iadd, 1) := dk_96 (dk_at dksJ7_append_0 6 rfl rfl)
theorem dJ7_append_7 : decode cJ7_append 7 = .ok (.invokevirtual 100, 3) := dk_182 0 100 (dk_at dksJ7_append_0 7 rfl rfl)
theorem dJ7_append_10 : decode cJ7_append 10 = .ok (.aload_n 0, 1) := dk_42 (dk_at dksJ7_append_0 10 rfl rfl)
theorem dJ7_append_11 : decode cJ7_append 11 = .ok (.invokevirtual 83, 3) := dk_182 0 83 (dk_at dksJ7_append_0 11 rfl rfl)
theorem dJ7_append_14 : decode cJ7_append 14 = .ok (.ifCond .eq 31, 3) := dk_153 0 31 (dk_at dksJ7_append_0 14 rfl rfl)
theorem dJ7_append_17 : decode cJ7_append 17 = .ok (.iload_n 1, 1) := dk_27 (dk_at dksJ7_append_0 17 rfl rfl)
theorem dJ7_append_18 : decode cJ7_append 18 = .ok (.invokestatic 191, 3) := dk_184 0 191 (dk_at dksJ7_append_0 18 rfl rfl)
theorem dJ7_append_21 : decode cJ7_append 21 = .ok (.ifCond .eq 24, 3) := dk_153 0 24 (dk_at dksJ7_append_0 21 rfl rfl)
theorem dJ7_append_24 : decode cJ7_append 24 = .ok (.aload_n 0, 1) := dk_42 (dk_at dksJ7_append_1 0 rfl rfl)
theorem dJ7_append_25 : decode cJ7_append 25 = .ok (.getfield 15, 3) := dk_180 0 15 (dk_at dksJ7_append_1 1 rfl rfl)
theorem dJ7_append_28 : decode cJ7_append 28 = .ok (.aload_n 0, 1) := dk_42 (dk_at dksJ7_append_1 4 rfl rfl)
theorem dJ7_append_29 : decode cJ7_append 29 = .ok (.dup, 1) := dk_89 (dk_at dksJ7_append_1 5 rfl rfl)
theorem dJ7_append_30 : decode cJ7_append 30 = .ok (.getfield 79, 3) := dk_180 0 79 (dk_at dksJ7_append_1 6 rfl rfl)
theorem dJ7_append_33 : decode cJ7_append 33 = .ok (.dup_x1, 1) := dk_90 (dk_at dksJ7_append_1 9 rfl rfl)
theorem dJ7_append_34 : decode cJ7_append 34 = .ok (.iconst 1, 1) := dk_4 (dk_at dksJ7_append_1 10 rfl rfl)
theorem dJ7_append_35 : decode cJ7_append 35 = .ok (.iadd, 1) := dk_96 (dk_at dksJ7_append_1 11 rfl rfl)
theorem dJ7_append_36 : decode cJ7_append 36 = .ok (.putfield 79, 3) := dk_181 0 79 (dk_at dksJ7_append_1 12 rfl rfl)
theorem dJ7_append_39 : decode cJ7_append 39 = .ok (.iload_n 1, 1) := dk_27 (dk_at dksJ7_append_1 15 rfl rfl)
theorem dJ7_append_40 : decode cJ7_append 40 = .ok (.i2b, 1) := dk_145 (dk_at dksJ7_append_1 16 rfl rfl)
theorem dJ7_append_41 : decode cJ7_append 41 = .ok (.bastore, 1) := dk_84 (dk_at dksJ7_append_1 17 rfl rfl)
theorem dJ7_append_42 : decode cJ7_append 42 = .ok (.goto 33, 3) := dk_167 0 33 (dk_at dksJ7_append_1 18 rfl rfl)
theorem dJ7_append_45 : decode cJ7_append 45 = .ok (.aload_n 0, 1) := dk_42 (dk_at dksJ7_append_1 21 rfl rfl)
theorem dJ7_append_46 : decode cJ7_append 46 = .ok (.invokevirtual 83, 3) := dk_182 0 83 (dk_at dksJ7_append_2 0 rfl rfl)
theorem dJ7_append_49 : decode cJ7_append 49 = .ok (.ifCond .eq 7, 3) := dk_153 0 7 (dk_at dksJ7_append_2 3 rfl rfl)
theorem dJ7_append_52 : decode cJ7_append 52 = .ok (.aload_n 0, 1) := dk_42 (dk_at dksJ7_append_2 6 rfl rfl)
theorem dJ7_append_53 : decode cJ7_append 53 = .ok (.invokevirtual 195, 3) := dk_182 0 195 (dk_at dksJ7_append_2 7 rfl rfl)
theorem dJ7_append_56 : decode cJ7_append 56 = .ok (.aload_n 0, 1) := dk_42 (dk_at dksJ7_append_2 10 rfl rfl)
theorem dJ7_append_57 : decode cJ7_append 57 = .ok (.getfield 15, 3) := dk_180 0 15 (dk_at dksJ7_append_2 11 rfl rfl)
theorem dJ7_append_60 : decode cJ7_append 60 = .ok (.aload_n 0, 1) := dk_42 (dk_at dksJ7_append_2 14 rfl rfl)
theorem dJ7_append_61 : decode cJ7_append 61 = .ok (.dup, 1) := dk_89 (dk_at dksJ7_append_2 15 rfl rfl)
theorem dJ7_append_62 : decode cJ7_append 62 = .ok (.getfield 79, 3) := dk_180 0 79 (dk_at dksJ7_append_2 16 rfl rfl)
theorem dJ7_append_65 : decode cJ7_append 65 = .ok (.dup_x1, 1) := dk_90 (dk_at dksJ7_append_2 19 rfl rfl)
theorem dJ7_append_66 : decode cJ7_append 66 = .ok (.iconst 1, 1) := dk_4 (dk_at dksJ7_append_2 20 rfl rfl)
theorem dJ7_append_67 : decode cJ7_append 67 = .ok (.iadd, 1) := dk_96 (dk_at dksJ7_append_2 21 rfl rfl)
theorem dJ7_append_68 : decode cJ7_append 68 = .ok (.putfield 79, 3) := dk_181 0 79 (dk_at dksJ7_append_3 0 rfl rfl)
theorem dJ7_append_71 : decode cJ7_append 71 = .ok (.iload_n 1, 1) := dk_27 (dk_at dksJ7_append_3 3 rfl rfl)
theorem dJ7_append_72 : decode cJ7_append 72 = .ok (.invokestatic 197, 3) := dk_184 0 197 (dk_at dksJ7_append_3 4 rfl rfl)
theorem dJ7_append_75 : decode cJ7_append 75 = .ok (.aload_n 0, 1) := dk_42 (dk_at dksJ7_append_3 7 rfl rfl)
theorem dJ7_append_76 : decode cJ7_append 76 = .ok (.areturn, 1) := dk_176 (dk_at dksJ7_append_3 8 rfl rfl)
abbrev cJ7_ensureCapacityInternal : ByteArray := prog_15_method_9_code
def yJ7_ensureCapacityInternal : MethodName := ⟨RJ7, "ensureCapacityInternal", "(I)V"⟩
def dkwJ7_ensureCapacityInternal_1 : List UInt8 := [182, 0, 104, 42, 180, 0, 22, 120, 184, 0, 108, 181, 0, 15, 177]
abbrev dktJ7_ensureCapacityInternal_1 : List UInt8 := dkwJ7_ensureCapacityInternal_1 ++ []
def dkwJ7_ensureCapacityInternal_0 : List UInt8 := [42, 180, 0, 15, 190, 42, 180, 0, 22, 122, 61, 27, 28, 100, 158, 0, 24, 42, 42, 180, 0, 15, 42, 27]
abbrev dktJ7_ensureCapacityInternal_0 : List UInt8 := dkwJ7_ensureCapacityInternal_0 ++ dktJ7_ensureCapacityInternal_1
theorem dksJ7_ensureCapacityInternal_0 : cJ7_ensureCapacityInternal.data.toList.drop 0 = dktJ7_ensureCapacityInternal_0 := by decide +kernel
theorem dksJ7_ensureCapacityInternal_1 : cJ7_ensureCapacityInternal.data.toList.drop 24 = dktJ7_ensureCapacityInternal_1 := dk_seg dksJ7_ensureCapacityInternal_0 24 rfl rfl
theorem dJ7_ensureCapacityInternal_0 : decode cJ7_ensureCapacityInternal 0 = .ok (.aload_n 0, 1) := dk_42 (dk_at dksJ7_ensureCapacityInternal_0 0 rfl rfl)
theorem dJ7_ensureCapacityInternal_1 : decode cJ7_ensureCapacityInternal 1 = .ok (.getfield 15, 3) := dk_180 0 15 (dk_at dksJ7_ensureCapacityInternal_0 1 rfl rfl)
theorem dJ7_ensureCapacityInternal_4 : decode cJ7_ensureCapacityInternal 4 = .ok (.arraylength, 1) := dk_190 (dk_at dksJ7_ensureCapacityInternal_0 4 rfl rfl)
theorem dJ7_ensureCapacityInternal_5 : decode cJ7_ensureCapacityInternal 5 = .ok (.aload_n 0, 1) := dk_42 (dk_at dksJ7_ensureCapacityInternal_0 5 rfl rfl)
theorem dJ7_ensureCapacityInternal_6 : decode cJ7_ensureCapacityInternal 6 = .ok (.getfield 22, 3) := dk_180 0 22 (dk_at dksJ7_ensureCapacityInternal_0 6 rfl rfl)
theorem dJ7_ensureCapacityInternal_9 : decode cJ7_ensureCapacityInternal 9 = .ok (.ishr, 1) := dk_122 (dk_at dksJ7_ensureCapacityInternal_0 9 rfl rfl)
theorem dJ7_ensureCapacityInternal_10 : decode cJ7_ensureCapacityInternal 10 = .ok (.istore_n 2, 1) := dk_61 (dk_at dksJ7_ensureCapacityInternal_0 10 rfl rfl)
theorem dJ7_ensureCapacityInternal_11 : decode cJ7_ensureCapacityInternal 11 = .ok (.iload_n 1, 1) := dk_27 (dk_at dksJ7_ensureCapacityInternal_0 11 rfl rfl)
theorem dJ7_ensureCapacityInternal_12 : decode cJ7_ensureCapacityInternal 12 = .ok (.iload_n 2, 1) := dk_28 (dk_at dksJ7_ensureCapacityInternal_0 12 rfl rfl)
theorem dJ7_ensureCapacityInternal_13 : decode cJ7_ensureCapacityInternal 13 = .ok (.isub, 1) := dk_100 (dk_at dksJ7_ensureCapacityInternal_0 13 rfl rfl)
theorem dJ7_ensureCapacityInternal_14 : decode cJ7_ensureCapacityInternal 14 = .ok (.ifCond .le 24, 3) := dk_158 0 24 (dk_at dksJ7_ensureCapacityInternal_0 14 rfl rfl)
theorem dJ7_ensureCapacityInternal_17 : decode cJ7_ensureCapacityInternal 17 = .ok (.aload_n 0, 1) := dk_42 (dk_at dksJ7_ensureCapacityInternal_0 17 rfl rfl)
theorem dJ7_ensureCapacityInternal_18 : decode cJ7_ensureCapacityInternal 18 = .ok (.aload_n 0, 1) := dk_42 (dk_at dksJ7_ensureCapacityInternal_0 18 rfl rfl)
theorem dJ7_ensureCapacityInternal_19 : decode cJ7_ensureCapacityInternal 19 = .ok (.getfield 15, 3) := dk_180 0 15 (dk_at dksJ7_ensureCapacityInternal_0 19 rfl rfl)
theorem dJ7_ensureCapacityInternal_22 : decode cJ7_ensureCapacityInternal 22 = .ok (.aload_n 0, 1) := dk_42 (dk_at dksJ7_ensureCapacityInternal_0 22 rfl rfl)
theorem dJ7_ensureCapacityInternal_23 : decode cJ7_ensureCapacityInternal 23 = .ok (.iload_n 1, 1) := dk_27 (dk_at dksJ7_ensureCapacityInternal_0 23 rfl rfl)
theorem dJ7_ensureCapacityInternal_24 : decode cJ7_ensureCapacityInternal 24 = .ok (.invokevirtual 104, 3) := dk_182 0 104 (dk_at dksJ7_ensureCapacityInternal_1 0 rfl rfl)
theorem dJ7_ensureCapacityInternal_27 : decode cJ7_ensureCapacityInternal 27 = .ok (.aload_n 0, 1) := dk_42 (dk_at dksJ7_ensureCapacityInternal_1 3 rfl rfl)
theorem dJ7_ensureCapacityInternal_28 : decode cJ7_ensureCapacityInternal 28 = .ok (.getfield 22, 3) := dk_180 0 22 (dk_at dksJ7_ensureCapacityInternal_1 4 rfl rfl)
theorem dJ7_ensureCapacityInternal_31 : decode cJ7_ensureCapacityInternal 31 = .ok (.ishl, 1) := dk_120 (dk_at dksJ7_ensureCapacityInternal_1 7 rfl rfl)
theorem dJ7_ensureCapacityInternal_32 : decode cJ7_ensureCapacityInternal 32 = .ok (.invokestatic 108, 3) := dk_184 0 108 (dk_at dksJ7_ensureCapacityInternal_1 8 rfl rfl)
theorem dJ7_ensureCapacityInternal_35 : decode cJ7_ensureCapacityInternal 35 = .ok (.putfield 15, 3) := dk_181 0 15 (dk_at dksJ7_ensureCapacityInternal_1 11 rfl rfl)
theorem dJ7_ensureCapacityInternal_38 : decode cJ7_ensureCapacityInternal 38 = .ok (.return_, 1) := dk_177 (dk_at dksJ7_ensureCapacityInternal_1 14 rfl rfl)
abbrev cJ7_newCapacity : ByteArray := prog_15_method_10_code
def yJ7_newCapacity : MethodName := ⟨RJ7, "newCapacity", "(I)I"⟩
def dkwJ7_newCapacity_2 : List UInt8 := [183, 0, 124, 191, 21, 5, 42, 180, 0, 22, 122, 172]
abbrev dktJ7_newCapacity_2 : List UInt8 := dkwJ7_newCapacity_2 ++ []
def dkwJ7_newCapacity_1 : List UInt8 := [180, 0, 22, 120, 96, 184, 0, 114, 54, 5, 21, 5, 18, 39, 160, 0, 13, 187, 0, 120, 89, 18, 122]
abbrev dktJ7_newCapacity_1 : List UInt8 := dkwJ7_newCapacity_1 ++ dktJ7_newCapacity_2
def dkwJ7_newCapacity_0 : List UInt8 := [42, 180, 0, 15, 190, 61, 27, 42, 180, 0, 22, 120, 62, 29, 28, 100, 54, 4, 28, 21, 4, 28, 5, 42]
abbrev dktJ7_newCapacity_0 : List UInt8 := dkwJ7_newCapacity_0 ++ dktJ7_newCapacity_1
theorem dksJ7_newCapacity_0 : cJ7_newCapacity.data.toList.drop 0 = dktJ7_newCapacity_0 := by decide +kernel
theorem dksJ7_newCapacity_1 : cJ7_newCapacity.data.toList.drop 24 = dktJ7_newCapacity_1 := dk_seg dksJ7_newCapacity_0 24 rfl rfl
theorem dksJ7_newCapacity_2 : cJ7_newCapacity.data.toList.drop 47 = dktJ7_newCapacity_2 := dk_seg dksJ7_newCapacity_1 23 rfl rfl
theorem dJ7_newCapacity_0 : decode cJ7_newCapacity 0 = .ok (.aload_n 0, 1) := dk_42 (dk_at dksJ7_newCapacity_0 0 rfl rfl)
theorem dJ7_newCapacity_1 : decode cJ7_newCapacity 1 = .ok (.getfield 15, 3) := dk_180 0 15 (dk_at dksJ7_newCapacity_0 1 rfl rfl)
theorem dJ7_newCapacity_4 : decode cJ7_newCapacity 4 = .ok (.arraylength, 1) := dk_190 (dk_at dksJ7_newCapacity_0 4 rfl rfl)
theorem dJ7_newCapacity_5 : decode cJ7_newCapacity 5 = .ok (.istore_n 2, 1) := dk_61 (dk_at dksJ7_newCapacity_0 5 rfl rfl)
theorem dJ7_newCapacity_6 : decode cJ7_newCapacity 6 = .ok (.iload_n 1, 1) := dk_27 (dk_at dksJ7_newCapacity_0 6 rfl rfl)
theorem dJ7_newCapacity_7 : decode cJ7_newCapacity 7 = .ok (.aload_n 0, 1) := dk_42 (dk_at dksJ7_newCapacity_0 7 rfl rfl)
theorem dJ7_newCapacity_8 : decode cJ7_newCapacity 8 = .ok (.getfield 22, 3) := dk_180 0 22 (dk_at dksJ7_newCapacity_0 8 rfl rfl)
theorem dJ7_newCapacity_11 : decode cJ7_newCapacity 11 = .ok (.ishl, 1) := dk_120 (dk_at dksJ7_newCapacity_0 11 rfl rfl)
theorem dJ7_newCapacity_12 : decode cJ7_newCapacity 12 = .ok (.istore_n 3, 1) := dk_62 (dk_at dksJ7_newCapacity_0 12 rfl rfl)
theorem dJ7_newCapacity_13 : decode cJ7_newCapacity 13 = .ok (.iload_n 3, 1) := dk_29 (dk_at dksJ7_newCapacity_0 13 rfl rfl)
theorem dJ7_newCapacity_14 : decode cJ7_newCapacity 14 = .ok (.iload_n 2, 1) := dk_28 (dk_at dksJ7_newCapacity_0 14 rfl rfl)
theorem dJ7_newCapacity_15 : decode cJ7_newCapacity 15 = .ok (.isub, 1) := dk_100 (dk_at dksJ7_newCapacity_0 15 rfl rfl)
theorem dJ7_newCapacity_16 : decode cJ7_newCapacity 16 = .ok (.istore 4, 2) := dk_54 4 (dk_at dksJ7_newCapacity_0 16 rfl rfl)
theorem dJ7_newCapacity_18 : decode cJ7_newCapacity 18 = .ok (.iload_n 2, 1) := dk_28 (dk_at dksJ7_newCapacity_0 18 rfl rfl)
theorem dJ7_newCapacity_19 : decode cJ7_newCapacity 19 = .ok (.iload 4, 2) := dk_21 4 (dk_at dksJ7_newCapacity_0 19 rfl rfl)
theorem dJ7_newCapacity_21 : decode cJ7_newCapacity 21 = .ok (.iload_n 2, 1) := dk_28 (dk_at dksJ7_newCapacity_0 21 rfl rfl)
theorem dJ7_newCapacity_22 : decode cJ7_newCapacity 22 = .ok (.iconst 2, 1) := dk_5 (dk_at dksJ7_newCapacity_0 22 rfl rfl)
theorem dJ7_newCapacity_23 : decode cJ7_newCapacity 23 = .ok (.aload_n 0, 1) := dk_42 (dk_at dksJ7_newCapacity_0 23 rfl rfl)
theorem dJ7_newCapacity_24 : decode cJ7_newCapacity 24 = .ok (.getfield 22, 3) := dk_180 0 22 (dk_at dksJ7_newCapacity_1 0 rfl rfl)
theorem dJ7_newCapacity_27 : decode cJ7_newCapacity 27 = .ok (.ishl, 1) := dk_120 (dk_at dksJ7_newCapacity_1 3 rfl rfl)
theorem dJ7_newCapacity_28 : decode cJ7_newCapacity 28 = .ok (.iadd, 1) := dk_96 (dk_at dksJ7_newCapacity_1 4 rfl rfl)
theorem dJ7_newCapacity_29 : decode cJ7_newCapacity 29 = .ok (.invokestatic 114, 3) := dk_184 0 114 (dk_at dksJ7_newCapacity_1 5 rfl rfl)
theorem dJ7_newCapacity_32 : decode cJ7_newCapacity 32 = .ok (.istore 5, 2) := dk_54 5 (dk_at dksJ7_newCapacity_1 8 rfl rfl)
theorem dJ7_newCapacity_34 : decode cJ7_newCapacity 34 = .ok (.iload 5, 2) := dk_21 5 (dk_at dksJ7_newCapacity_1 10 rfl rfl)
theorem dJ7_newCapacity_36 : decode cJ7_newCapacity 36 = .ok (.ldc 39, 2) := dk_18 39 (dk_at dksJ7_newCapacity_1 12 rfl rfl)
theorem dJ7_newCapacity_38 : decode cJ7_newCapacity 38 = .ok (.if_icmp .ne 13, 3) := dk_160 0 13 (dk_at dksJ7_newCapacity_1 14 rfl rfl)
theorem dJ7_newCapacity_41 : decode cJ7_newCapacity 41 = .ok (.new 120, 3) := dk_187 0 120 (dk_at dksJ7_newCapacity_1 17 rfl rfl)
theorem dJ7_newCapacity_44 : decode cJ7_newCapacity 44 = .ok (.dup, 1) := dk_89 (dk_at dksJ7_newCapacity_1 20 rfl rfl)
theorem dJ7_newCapacity_45 : decode cJ7_newCapacity 45 = .ok (.ldc 122, 2) := dk_18 122 (dk_at dksJ7_newCapacity_1 21 rfl rfl)
theorem dJ7_newCapacity_47 : decode cJ7_newCapacity 47 = .ok (.invokespecial 124, 3) := dk_183 0 124 (dk_at dksJ7_newCapacity_2 0 rfl rfl)
theorem dJ7_newCapacity_50 : decode cJ7_newCapacity 50 = .ok (.athrow, 1) := dk_191 (dk_at dksJ7_newCapacity_2 3 rfl rfl)
theorem dJ7_newCapacity_51 : decode cJ7_newCapacity 51 = .ok (.iload 5, 2) := dk_21 5 (dk_at dksJ7_newCapacity_2 4 rfl rfl)
theorem dJ7_newCapacity_53 : decode cJ7_newCapacity 53 = .ok (.aload_n 0, 1) := dk_42 (dk_at dksJ7_newCapacity_2 6 rfl rfl)
theorem dJ7_newCapacity_54 : decode cJ7_newCapacity 54 = .ok (.getfield 22, 3) := dk_180 0 22 (dk_at dksJ7_newCapacity_2 7 rfl rfl)
theorem dJ7_newCapacity_57 : decode cJ7_newCapacity 57 = .ok (.ishr, 1) := dk_122 (dk_at dksJ7_newCapacity_2 10 rfl rfl)
theorem dJ7_newCapacity_58 : decode cJ7_newCapacity 58 = .ok (.ireturn, 1) := dk_172 (dk_at dksJ7_newCapacity_2 11 rfl rfl)
abbrev cJ7_setLength : ByteArray := prog_15_method_13_code
def yJ7_setLength : MethodName := ⟨RJ7, "setLength", "(I)V"⟩
def dkwJ7_setLength_3 : List UInt8 := [164, 0, 8, 42, 4, 181, 0, 73, 42, 27, 181, 0, 79, 177]
abbrev dktJ7_setLength_3 : List UInt8 := dkwJ7_setLength_3 ++ []
def dkwJ7_setLength_2 : List UInt8 := [167, 0, 31, 42, 180, 0, 15, 42, 180, 0, 79, 27, 184, 0, 137, 167, 0, 16, 42, 180, 0, 79, 27]
abbrev dktJ7_setLength_2 : List UInt8 := dkwJ7_setLength_2 ++ dktJ7_setLength_3
def dkwJ7_setLength_1 : List UInt8 := [162, 0, 40, 42, 182, 0, 83, 153, 0, 18, 42, 180, 0, 15, 42, 180, 0, 79, 27, 184, 0, 133]
abbrev dktJ7_setLength_1 : List UInt8 := dkwJ7_setLength_1 ++ dktJ7_setLength_2
def dkwJ7_setLength_0 : List UInt8 := [27, 156, 0, 12, 187, 0, 129, 89, 27, 183, 0, 131, 191, 42, 27, 182, 0, 100, 42, 180, 0, 79, 27]
abbrev dktJ7_setLength_0 : List UInt8 := dkwJ7_setLength_0 ++ dktJ7_setLength_1
theorem dksJ7_setLength_0 : cJ7_setLength.data.toList.drop 0 = dktJ7_setLength_0 := by decide +kernel
theorem dksJ7_setLength_1 : cJ7_setLength.data.toList.drop 23 = dktJ7_setLength_1 := dk_seg dksJ7_setLength_0 23 rfl rfl
theorem dksJ7_setLength_2 : cJ7_setLength.data.toList.drop 45 = dktJ7_setLength_2 := dk_seg dksJ7_setLength_1 22 rfl rfl
theorem dksJ7_setLength_3 : cJ7_setLength.data.toList.drop 68 = dktJ7_setLength_3 := dk_seg dksJ7_setLength_2 23 rfl rfl
theorem dJ7_setLength_0 : decode cJ7_setLength 0 = .ok (.iload_n 1, 1) := dk_27 (dk_at dksJ7_setLength_0 0 rfl rfl)
theorem dJ7_setLength_1 : decode cJ7_setLength 1 = .ok (.ifCond .ge 12, 3) := dk_156 0 12 (dk_at dksJ7_setLength_0 1 rfl rfl)
theorem dJ7_setLength_4 : decode cJ7_setLength 4 = .ok (.new 129, 3) := dk_187 0 129 (dk_at dksJ7_setLength_0 4 rfl rfl)
theorem dJ7_setLength_7 : decode cJ7_setLength 7 = .ok (.dup, 1) := dk_89 (dk_at dksJ7_setLength_0 7 rfl rfl)
theorem dJ7_setLength_8 : decode cJ7_setLength 8 = .ok (.iload_n 1, 1) := dk_27 (dk_at dksJ7_setLength_0 8 rfl rfl)
theorem dJ7_setLength_9 : decode cJ7_setLength 9 = .ok (.invokespecial 131, 3) := dk_183 0 131 (dk_at dksJ7_setLength_0 9 rfl rfl)
theorem dJ7_setLength_12 : decode cJ7_setLength 12 = .ok (.athrow, 1) := dk_191 (dk_at dksJ7_setLength_0 12 rfl rfl)
theorem dJ7_setLength_13 : decode cJ7_setLength 13 = .ok (.aload_n 0, 1) := dk_42 (dk_at dksJ7_setLength_0 13 rfl rfl)
theorem dJ7_setLength_14 : decode cJ7_setLength 14 = .ok (.iload_n 1, 1) := dk_27 (dk_at dksJ7_setLength_0 14 rfl rfl)
theorem dJ7_setLength_15 : decode cJ7_setLength 15 = .ok (.invokevirtual 100, 3) := dk_182 0 100 (dk_at dksJ7_setLength_0 15 rfl rfl)
theorem dJ7_setLength_18 : decode cJ7_setLength 18 = .ok (.aload_n 0, 1) := dk_42 (dk_at dksJ7_setLength_0 18 rfl rfl)
theorem dJ7_setLength_19 : decode cJ7_setLength 19 = .ok (.getfield 79, 3) := dk_180 0 79 (dk_at dksJ7_setLength_0 19 rfl rfl)
theorem dJ7_setLength_22 : decode cJ7_setLength 22 = .ok (.iload_n 1, 1) := dk_27 (dk_at dksJ7_setLength_0 22 rfl rfl)
theorem dJ7_setLength_23 : decode cJ7_setLength 23 = .ok (.if_icmp .ge 40, 3) := dk_162 0 40 (dk_at dksJ7_setLength_1 0 rfl rfl)
theorem dJ7_setLength_26 : decode cJ7_setLength 26 = .ok (.aload_n 0, 1) := dk_42 (dk_at dksJ7_setLength_1 3 rfl rfl)
theorem dJ7_setLength_27 : decode cJ7_setLength 27 = .ok (.invokevirtual 83, 3) := dk_182 0 83 (dk_at dksJ7_setLength_1 4 rfl rfl)
theorem dJ7_setLength_30 : decode cJ7_setLength 30 = .ok (.ifCond .eq 18, 3) := dk_153 0 18 (dk_at dksJ7_setLength_1 7 rfl rfl)
theorem dJ7_setLength_33 : decode cJ7_setLength 33 = .ok (.aload_n 0, 1) := dk_42 (dk_at dksJ7_setLength_1 10 rfl rfl)
theorem dJ7_setLength_34 : decode cJ7_setLength 34 = .ok (.getfield 15, 3) := dk_180 0 15 (dk_at dksJ7_setLength_1 11 rfl rfl)
theorem dJ7_setLength_37 : decode cJ7_setLength 37 = .ok (.aload_n 0, 1) := dk_42 (dk_at dksJ7_setLength_1 14 rfl rfl)
theorem dJ7_setLength_38 : decode cJ7_setLength 38 = .ok (.getfield 79, 3) := dk_180 0 79 (dk_at dksJ7_setLength_1 15 rfl rfl)
theorem dJ7_setLength_41 : decode cJ7_setLength 41 = .ok (.iload_n 1, 1) := dk_27 (dk_at dksJ7_setLength_1 18 rfl rfl)
theorem dJ7_setLength_42 : decode cJ7_setLength 42 = .ok (.invokestatic 133, 3) := dk_184 0 133 (dk_at dksJ7_setLength_1 19 rfl rfl)
theorem dJ7_setLength_45 : decode cJ7_setLength 45 = .ok (.goto 31, 3) := dk_167 0 31 (dk_at dksJ7_setLength_2 0 rfl rfl)
theorem dJ7_setLength_48 : decode cJ7_setLength 48 = .ok (.aload_n 0, 1) := dk_42 (dk_at dksJ7_setLength_2 3 rfl rfl)
theorem dJ7_setLength_49 : decode cJ7_setLength 49 = .ok (.getfield 15, 3) := dk_180 0 15 (dk_at dksJ7_setLength_2 4 rfl rfl)
theorem dJ7_setLength_52 : decode cJ7_setLength 52 = .ok (.aload_n 0, 1) := dk_42 (dk_at dksJ7_setLength_2 7 rfl rfl)
theorem dJ7_setLength_53 : decode cJ7_setLength 53 = .ok (.getfield 79, 3) := dk_180 0 79 (dk_at dksJ7_setLength_2 8 rfl rfl)
theorem dJ7_setLength_56 : decode cJ7_setLength 56 = .ok (.iload_n 1, 1) := dk_27 (dk_at dksJ7_setLength_2 11 rfl rfl)
theorem dJ7_setLength_57 : decode cJ7_setLength 57 = .ok (.invokestatic 137, 3) := dk_184 0 137 (dk_at dksJ7_setLength_2 12 rfl rfl)
theorem dJ7_setLength_60 : decode cJ7_setLength 60 = .ok (.goto 16, 3) := dk_167 0 16 (dk_at dksJ7_setLength_2 15 rfl rfl)
theorem dJ7_setLength_63 : decode cJ7_setLength 63 = .ok (.aload_n 0, 1) := dk_42 (dk_at dksJ7_setLength_2 18 rfl rfl)
theorem dJ7_setLength_64 : decode cJ7_setLength 64 = .ok (.getfield 79, 3) := dk_180 0 79 (dk_at dksJ7_setLength_2 19 rfl rfl)
theorem dJ7_setLength_67 : decode cJ7_setLength 67 = .ok (.iload_n 1, 1) := dk_27 (dk_at dksJ7_setLength_2 22 rfl rfl)
theorem dJ7_setLength_68 : decode cJ7_setLength 68 = .ok (.if_icmp .le 8, 3) := dk_164 0 8 (dk_at dksJ7_setLength_3 0 rfl rfl)
theorem dJ7_setLength_71 : decode cJ7_setLength 71 = .ok (.aload_n 0, 1) := dk_42 (dk_at dksJ7_setLength_3 3 rfl rfl)
theorem dJ7_setLength_72 : decode cJ7_setLength 72 = .ok (.iconst 1, 1) := dk_4 (dk_at dksJ7_setLength_3 4 rfl rfl)
theorem dJ7_setLength_73 : decode cJ7_setLength 73 = .ok (.putfield 73, 3) := dk_181 0 73 (dk_at dksJ7_setLength_3 5 rfl rfl)
theorem dJ7_setLength_76 : decode cJ7_setLength 76 = .ok (.aload_n 0, 1) := dk_42 (dk_at dksJ7_setLength_3 8 rfl rfl)
theorem dJ7_setLength_77 : decode cJ7_setLength 77 = .ok (.iload_n 1, 1) := dk_27 (dk_at dksJ7_setLength_3 9 rfl rfl)
theorem dJ7_setLength_78 : decode cJ7_setLength 78 = .ok (.putfield 79, 3) := dk_181 0 79 (dk_at dksJ7_setLength_3 10 rfl rfl)
theorem dJ7_setLength_81 : decode cJ7_setLength 81 = .ok (.return_, 1) := dk_177 (dk_at dksJ7_setLength_3 13 rfl rfl)
abbrev cJ7_charAt : ByteArray := prog_15_method_14_code
def yJ7_charAt : MethodName := ⟨RJ7, "charAt", "(I)C"⟩
def dkwJ7_charAt_1 : List UInt8 := [21, 4, 184, 0, 144, 28, 154, 0, 12, 45, 27, 51, 17, 0, 255, 126, 146, 172, 45, 27, 184, 0, 148, 172]
abbrev dktJ7_charAt_1 : List UInt8 := dkwJ7_charAt_1 ++ []
def dkwJ7_charAt_0 : List UInt8 := [42, 180, 0, 22, 61, 42, 180, 0, 15, 78, 42, 180, 0, 79, 45, 190, 28, 122, 184, 0, 138, 54, 4, 27]
abbrev dktJ7_charAt_0 : List UInt8 := dkwJ7_charAt_0 ++ dktJ7_charAt_1
theorem dksJ7_charAt_0 : cJ7_charAt.data.toList.drop 0 = dktJ7_charAt_0 := by decide +kernel
theorem dksJ7_charAt_1 : cJ7_charAt.data.toList.drop 24 = dktJ7_charAt_1 := dk_seg dksJ7_charAt_0 24 rfl rfl
theorem dJ7_charAt_0 : decode cJ7_charAt 0 = .ok (.aload_n 0, 1) := dk_42 (dk_at dksJ7_charAt_0 0 rfl rfl)
theorem dJ7_charAt_1 : decode cJ7_charAt 1 = .ok (.getfield 22, 3) := dk_180 0 22 (dk_at dksJ7_charAt_0 1 rfl rfl)
theorem dJ7_charAt_4 : decode cJ7_charAt 4 = .ok (.istore_n 2, 1) := dk_61 (dk_at dksJ7_charAt_0 4 rfl rfl)
theorem dJ7_charAt_5 : decode cJ7_charAt 5 = .ok (.aload_n 0, 1) := dk_42 (dk_at dksJ7_charAt_0 5 rfl rfl)
theorem dJ7_charAt_6 : decode cJ7_charAt 6 = .ok (.getfield 15, 3) := dk_180 0 15 (dk_at dksJ7_charAt_0 6 rfl rfl)
theorem dJ7_charAt_9 : decode cJ7_charAt 9 = .ok (.astore_n 3, 1) := dk_78 (dk_at dksJ7_charAt_0 9 rfl rfl)
theorem dJ7_charAt_10 : decode cJ7_charAt 10 = .ok (.aload_n 0, 1) := dk_42 (dk_at dksJ7_charAt_0 10 rfl rfl)
theorem dJ7_charAt_11 : decode cJ7_charAt 11 = .ok (.getfield 79, 3) := dk_180 0 79 (dk_at dksJ7_charAt_0 11 rfl rfl)
theorem dJ7_charAt_14 : decode cJ7_charAt 14 = .ok (.aload_n 3, 1) := dk_45 (dk_at dksJ7_charAt_0 14 rfl rfl)
theorem dJ7_charAt_15 : decode cJ7_charAt 15 = .ok (.arraylength, 1) := dk_190 (dk_at dksJ7_charAt_0 15 rfl rfl)
theorem dJ7_charAt_16 : decode cJ7_charAt 16 = .ok (.iload_n 2, 1) := dk_28 (dk_at dksJ7_charAt_0 16 rfl rfl)
theorem dJ7_charAt_17 : decode cJ7_charAt 17 = .ok (.ishr, 1) := dk_122 (dk_at dksJ7_charAt_0 17 rfl rfl)
theorem dJ7_charAt_18 : decode cJ7_charAt 18 = .ok (.invokestatic 138, 3) := dk_184 0 138 (dk_at dksJ7_charAt_0 18 rfl rfl)
theorem dJ7_charAt_21 : decode cJ7_charAt 21 = .ok (.istore 4, 2) := dk_54 4 (dk_at dksJ7_charAt_0 21 rfl rfl)
theorem dJ7_charAt_23 : decode cJ7_charAt 23 = .ok (.iload_n 1, 1) := dk_27 (dk_at dksJ7_charAt_0 23 rfl rfl)
theorem dJ7_charAt_24 : decode cJ7_charAt 24 = .ok (.iload 4, 2) := dk_21 4 (dk_at dksJ7_charAt_1 0 rfl rfl)
theorem dJ7_charAt_26 : decode cJ7_charAt 26 = .ok (.invokestatic 144, 3) := dk_184 0 144 (dk_at dksJ7_charAt_1 2 rfl rfl)
theorem dJ7_charAt_29 : decode cJ7_charAt 29 = .ok (.iload_n 2, 1) := dk_28 (dk_at dksJ7_charAt_1 5 rfl rfl)
theorem dJ7_charAt_30 : decode cJ7_charAt 30 = .ok (.ifCond .ne 12, 3) := dk_154 0 12 (dk_at dksJ7_charAt_1 6 rfl rfl)
theorem dJ7_charAt_33 : decode cJ7_charAt 33 = .ok (.aload_n 3, 1) := dk_45 (dk_at dksJ7_charAt_1 9 rfl rfl)
theorem dJ7_charAt_34 : decode cJ7_charAt 34 = .ok (.iload_n 1, 1) := dk_27 (dk_at dksJ7_charAt_1 10 rfl rfl)
theorem dJ7_charAt_35 : decode cJ7_charAt 35 = .ok (.baload, 1) := dk_51 (dk_at dksJ7_charAt_1 11 rfl rfl)
theorem dJ7_charAt_36 : decode cJ7_charAt 36 = .ok (.sipush 255, 3) := dk_17 0 255 (dk_at dksJ7_charAt_1 12 rfl rfl)
theorem dJ7_charAt_39 : decode cJ7_charAt 39 = .ok (.iand, 1) := dk_126 (dk_at dksJ7_charAt_1 15 rfl rfl)
theorem dJ7_charAt_40 : decode cJ7_charAt 40 = .ok (.i2c, 1) := dk_146 (dk_at dksJ7_charAt_1 16 rfl rfl)
theorem dJ7_charAt_41 : decode cJ7_charAt 41 = .ok (.ireturn, 1) := dk_172 (dk_at dksJ7_charAt_1 17 rfl rfl)
theorem dJ7_charAt_42 : decode cJ7_charAt 42 = .ok (.aload_n 3, 1) := dk_45 (dk_at dksJ7_charAt_1 18 rfl rfl)
theorem dJ7_charAt_43 : decode cJ7_charAt 43 = .ok (.iload_n 1, 1) := dk_27 (dk_at dksJ7_charAt_1 19 rfl rfl)
theorem dJ7_charAt_44 : decode cJ7_charAt 44 = .ok (.invokestatic 148, 3) := dk_184 0 148 (dk_at dksJ7_charAt_1 20 rfl rfl)
theorem dJ7_charAt_47 : decode cJ7_charAt 47 = .ok (.ireturn, 1) := dk_172 (dk_at dksJ7_charAt_1 23 rfl rfl)
theorem q108 : (Jvm.Cond.initialized "java/lang/AbstractStringBuilder") ∈ lw_all := lw_g (lw_at lw_m1 11 rfl) rfl
theorem q334 : (Jvm.Cond.instanceMethod ({ cls := "java/lang/AbstractStringBuilder", name := "<init>", desc := "(I)V" } : Jvm.MethodName)) ∈ lw_all := lw_g (lw_at lw_m1 237 rfl) rfl
theorem q335 : (Jvm.Cond.code ({ cls := "java/lang/AbstractStringBuilder", name := "<init>", desc := "(I)V" } : Jvm.MethodName) prog_15_method_2_code (2 : Nat) (Option.none : Option Jvm.ClassFile.FieldType)) ∈ lw_all := lw_g (lw_at lw_m1 238 rfl) rfl
theorem q336 : (Jvm.Cond.methodLink "java/lang/AbstractStringBuilder" (3 : Nat) ({ cls := "java/lang/Object", name := "<init>", desc := "()V" } : Jvm.MethodName)) ∈ lw_all := lw_g (lw_at lw_m1 239 rfl) rfl
theorem q337 : (Jvm.Cond.fieldLink "java/lang/AbstractStringBuilder" (18 : Nat) "java/lang/String" "COMPACT_STRINGS" "Z") ∈ lw_all := lw_g (lw_at lw_m2 0 rfl) rfl
theorem q339 : (Jvm.Cond.methodLink "java/lang/AbstractStringBuilder" (26 : Nat) ({ cls := "java/lang/StringUTF16", name := "newBytesFor", desc := "(I)[B" } : Jvm.MethodName)) ∈ lw_all := lw_g (lw_at lw_m2 2 rfl) rfl
theorem q346 : (Jvm.Cond.fieldLink "java/lang/AbstractStringBuilder" (15 : Nat) "java/lang/AbstractStringBuilder" "value" "[B") ∈ lw_all := lw_g (lw_at lw_m2 9 rfl) rfl
theorem q347 : (Jvm.Cond.fieldLink "java/lang/AbstractStringBuilder" (22 : Nat) "java/lang/AbstractStringBuilder" "coder" "B") ∈ lw_all := lw_g (lw_at lw_m2 10 rfl) rfl
theorem q348 : (Jvm.Cond.fieldLink "java/lang/AbstractStringBuilder" (73 : Nat) "java/lang/AbstractStringBuilder" "maybeLatin1" "Z") ∈ lw_all := lw_g (lw_at lw_m2 11 rfl) rfl
theorem q349 : (Jvm.Cond.fieldLink "java/lang/AbstractStringBuilder" (79 : Nat) "java/lang/AbstractStringBuilder" "count" "I") ∈ lw_all := lw_g (lw_at lw_m2 12 rfl) rfl
theorem q351 : (Jvm.Cond.soleField "java/lang/AbstractStringBuilder" "value") ∈ lw_all := lw_g (lw_at lw_m2 14 rfl) rfl
theorem q353 : (Jvm.Cond.soleField "java/lang/AbstractStringBuilder" "coder") ∈ lw_all := lw_g (lw_at lw_m2 16 rfl) rfl
theorem q355 : (Jvm.Cond.soleField "java/lang/AbstractStringBuilder" "maybeLatin1") ∈ lw_all := lw_g (lw_at lw_m2 18 rfl) rfl
theorem q357 : (Jvm.Cond.soleField "java/lang/AbstractStringBuilder" "count") ∈ lw_all := lw_g (lw_at lw_m2 20 rfl) rfl
theorem q1334 : (Jvm.Cond.instanceMethod ({ cls := "java/lang/AbstractStringBuilder", name := "compareTo", desc := "(Ljava/lang/AbstractStringBuilder;)I" } : Jvm.MethodName)) ∈ lw_all := lw_g (lw_at lw_m6 37 rfl) rfl
theorem q1335 : (Jvm.Cond.code ({ cls := "java/lang/AbstractStringBuilder", name := "compareTo", desc := "(Ljava/lang/AbstractStringBuilder;)I" } : Jvm.MethodName) prog_15_method_5_code (6 : Nat) (Option.some Jvm.ClassFile.FieldType.int)) ∈ lw_all := lw_g (lw_at lw_m6 38 rfl) rfl
theorem q1336 : (Jvm.Cond.methodLink "java/lang/AbstractStringBuilder" (83 : Nat) ({ cls := "java/lang/AbstractStringBuilder", name := "isLatin1", desc := "()Z" } : Jvm.MethodName)) ∈ lw_all := lw_g (lw_at lw_m6 39 rfl) rfl
theorem q1337 : (Jvm.Cond.instanceMethod ({ cls := "java/lang/AbstractStringBuilder", name := "isLatin1", desc := "()Z" } : Jvm.MethodName)) ∈ lw_all := lw_g (lw_at lw_m6 40 rfl) rfl
theorem q1338 : (Jvm.Cond.sameMethod "java/lang/AbstractStringBuilder" "java/lang/AbstractStringBuilder" "isLatin1" "()Z") ∈ lw_all := lw_g (lw_at lw_m6 41 rfl) rfl
theorem q1340 : (Jvm.Cond.code ({ cls := "java/lang/AbstractStringBuilder", name := "isLatin1", desc := "()Z" } : Jvm.MethodName) prog_15_method_68_code (1 : Nat) (Option.some Jvm.ClassFile.FieldType.boolean)) ∈ lw_all := lw_g (lw_at lw_m6 43 rfl) rfl
theorem q1341 : (Jvm.Cond.methodLink "java/lang/AbstractStringBuilder" (87 : Nat) ({ cls := "java/lang/StringLatin1", name := "compareTo", desc := "([B[BII)I" } : Jvm.MethodName)) ∈ lw_all := lw_g (lw_at lw_m6 44 rfl) rfl
theorem q1342 : (Jvm.Cond.methodLink "java/lang/AbstractStringBuilder" (93 : Nat) ({ cls := "java/lang/StringUTF16", name := "compareTo", desc := "([B[BII)I" } : Jvm.MethodName)) ∈ lw_all := lw_g (lw_at lw_m6 45 rfl) rfl
theorem q1356 : (Jvm.Cond.methodLink "java/lang/AbstractStringBuilder" (94 : Nat) ({ cls := "java/lang/StringLatin1", name := "compareToUTF16", desc := "([B[BII)I" } : Jvm.MethodName)) ∈ lw_all := lw_g (lw_at lw_m6 59 rfl) rfl
theorem q1360 : (Jvm.Cond.methodLink "java/lang/AbstractStringBuilder" (97 : Nat) ({ cls := "java/lang/StringUTF16", name := "compareToLatin1", desc := "([B[BII)I" } : Jvm.MethodName)) ∈ lw_all := lw_g (lw_at lw_m6 63 rfl) rfl
theorem q2522 : (Jvm.Cond.instanceMethod ({ cls := "java/lang/AbstractStringBuilder", name := "length", desc := "()I" } : Jvm.MethodName)) ∈ lw_all := lw_g (lw_at lw_m11 25 rfl) rfl
theorem q2523 : (Jvm.Cond.code ({ cls := "java/lang/AbstractStringBuilder", name := "length", desc := "()I" } : Jvm.MethodName) prog_15_method_6_code (1 : Nat) (Option.some Jvm.ClassFile.FieldType.int)) ∈ lw_all := lw_g (lw_at lw_m11 26 rfl) rfl
theorem q2552 : (Jvm.Cond.instanceMethod ({ cls := "java/lang/AbstractStringBuilder", name := "append", desc := "(C)Ljava/lang/AbstractStringBuilder;" } : Jvm.MethodName)) ∈ lw_all := lw_g (lw_at lw_m11 55 rfl) rfl
theorem q2553 : (Jvm.Cond.code ({ cls := "java/lang/AbstractStringBuilder", name := "append", desc := "(C)Ljava/lang/AbstractStringBuilder;" } : Jvm.MethodName) prog_15_method_31_code (2 : Nat) (Option.some (Jvm.ClassFile.FieldType.object "java/lang/AbstractStringBuilder"))) ∈ lw_all := lw_g (lw_at lw_m11 56 rfl) rfl
theorem q2554 : (Jvm.Cond.methodLink "java/lang/AbstractStringBuilder" (100 : Nat) ({ cls := "java/lang/AbstractStringBuilder", name := "ensureCapacityInternal", desc := "(I)V" } : Jvm.MethodName)) ∈ lw_all := lw_g (lw_at lw_m11 57 rfl) rfl
theorem q2555 : (Jvm.Cond.privateMethod ({ cls := "java/lang/AbstractStringBuilder", name := "ensureCapacityInternal", desc := "(I)V" } : Jvm.MethodName)) ∈ lw_tbl := lw_at lw_m11 58 rfl
theorem q2556 : (Jvm.Cond.instanceMethod ({ cls := "java/lang/AbstractStringBuilder", name := "ensureCapacityInternal", desc := "(I)V" } : Jvm.MethodName)) ∈ lw_all := lw_g (lw_at lw_m11 59 rfl) rfl
theorem q2557 : (Jvm.Cond.code ({ cls := "java/lang/AbstractStringBuilder", name := "ensureCapacityInternal", desc := "(I)V" } : Jvm.MethodName) prog_15_method_9_code (3 : Nat) (Option.none : Option Jvm.ClassFile.FieldType)) ∈ lw_all := lw_g (lw_at lw_m11 60 rfl) rfl
theorem q2558 : (Jvm.Cond.methodLink "java/lang/AbstractStringBuilder" (104 : Nat) ({ cls := "java/lang/AbstractStringBuilder", name := "newCapacity", desc := "(I)I" } : Jvm.MethodName)) ∈ lw_all := lw_g (lw_at lw_m11 61 rfl) rfl
theorem q2559 : (Jvm.Cond.privateMethod ({ cls := "java/lang/AbstractStringBuilder", name := "newCapacity", desc := "(I)I" } : Jvm.MethodName)) ∈ lw_tbl := lw_at lw_m11 62 rfl
theorem q2560 : (Jvm.Cond.instanceMethod ({ cls := "java/lang/AbstractStringBuilder", name := "newCapacity", desc := "(I)I" } : Jvm.MethodName)) ∈ lw_all := lw_g (lw_at lw_m11 63 rfl) rfl
theorem q2561 : (Jvm.Cond.code ({ cls := "java/lang/AbstractStringBuilder", name := "newCapacity", desc := "(I)I" } : Jvm.MethodName) prog_15_method_10_code (6 : Nat) (Option.some Jvm.ClassFile.FieldType.int)) ∈ lw_all := lw_g (lw_at lw_m11 64 rfl) rfl
theorem q2562 : (Jvm.Cond.methodLink "java/lang/AbstractStringBuilder" (114 : Nat) ({ cls := "jdk/internal/util/ArraysSupport", name := "newLength", desc := "(III)I" } : Jvm.MethodName)) ∈ lw_all := lw_g (lw_at lw_m11 65 rfl) rfl
theorem q2563 : (Jvm.Cond.constant "java/lang/AbstractStringBuilder" (39 : Nat) (2147483647 : Int32)) ∈ lw_all := lw_g (lw_at lw_m11 66 rfl) rfl
theorem q2564 : (Jvm.Cond.methodLink "java/lang/AbstractStringBuilder" (108 : Nat) ({ cls := "java/util/Arrays", name := "copyOf", desc := "([BI)[B" } : Jvm.MethodName)) ∈ lw_all := lw_g (lw_at lw_m11 67 rfl) rfl
theorem q2572 : (Jvm.Cond.methodLink "java/lang/AbstractStringBuilder" (191 : Nat) ({ cls := "java/lang/StringLatin1", name := "canEncode", desc := "(C)Z" } : Jvm.MethodName)) ∈ lw_all := lw_g (lw_at lw_m11 75 rfl) rfl
theorem q2575 : (Jvm.Cond.methodLink "java/lang/AbstractStringBuilder" (195 : Nat) ({ cls := "java/lang/AbstractStringBuilder", name := "inflate", desc := "()V" } : Jvm.MethodName)) ∈ lw_all := lw_g (lw_at lw_m11 78 rfl) rfl
theorem q2576 : (Jvm.Cond.privateMethod ({ cls := "java/lang/AbstractStringBuilder", name := "inflate", desc := "()V" } : Jvm.MethodName)) ∈ lw_tbl := lw_at lw_m11 79 rfl
theorem q2577 : (Jvm.Cond.instanceMethod ({ cls := "java/lang/AbstractStringBuilder", name := "inflate", desc := "()V" } : Jvm.MethodName)) ∈ lw_all := lw_g (lw_at lw_m11 80 rfl) rfl
theorem q2578 : (Jvm.Cond.code ({ cls := "java/lang/AbstractStringBuilder", name := "inflate", desc := "()V" } : Jvm.MethodName) prog_15_method_11_code (2 : Nat) (Option.none : Option Jvm.ClassFile.FieldType)) ∈ lw_all := lw_g (lw_at lw_m11 81 rfl) rfl
theorem q2579 : (Jvm.Cond.methodLink "java/lang/AbstractStringBuilder" (125 : Nat) ({ cls := "java/lang/StringLatin1", name := "inflate", desc := "([BI[BII)V" } : Jvm.MethodName)) ∈ lw_all := lw_g (lw_at lw_m11 82 rfl) rfl
theorem q2597 : (Jvm.Cond.methodLink "java/lang/AbstractStringBuilder" (197 : Nat) ({ cls := "java/lang/StringUTF16", name := "putCharSB", desc := "([BII)V" } : Jvm.MethodName)) ∈ lw_all := lw_g (lw_at lw_m11 100 rfl) rfl
theorem q2616 : (Jvm.Cond.instanceMethod ({ cls := "java/lang/AbstractStringBuilder", name := "setLength", desc := "(I)V" } : Jvm.MethodName)) ∈ lw_all := lw_g (lw_at lw_m11 119 rfl) rfl
theorem q2617 : (Jvm.Cond.code ({ cls := "java/lang/AbstractStringBuilder", name := "setLength", desc := "(I)V" } : Jvm.MethodName) prog_15_method_13_code (2 : Nat) (Option.none : Option Jvm.ClassFile.FieldType)) ∈ lw_all := lw_g (lw_at lw_m11 120 rfl) rfl
theorem q2618 : (Jvm.Cond.methodLink "java/lang/AbstractStringBuilder" (133 : Nat) ({ cls := "java/lang/StringLatin1", name := "fillNull", desc := "([BII)V" } : Jvm.MethodName)) ∈ lw_all := lw_g (lw_at lw_m11 121 rfl) rfl
theorem q2627 : (Jvm.Cond.methodLink "java/lang/AbstractStringBuilder" (137 : Nat) ({ cls := "java/lang/StringUTF16", name := "fillNull", desc := "([BII)V" } : Jvm.MethodName)) ∈ lw_all := lw_g (lw_at lw_m11 130 rfl) rfl
theorem q2681 : (Jvm.Cond.instanceMethod ({ cls := "java/lang/AbstractStringBuilder", name := "charAt", desc := "(I)C" } : Jvm.MethodName)) ∈ lw_all := lw_g (lw_at lw_m11 184 rfl) rfl
theorem q2682 : (Jvm.Cond.code ({ cls := "java/lang/AbstractStringBuilder", name := "charAt", desc := "(I)C" } : Jvm.MethodName) prog_15_method_14_code (5 : Nat) (Option.some Jvm.ClassFile.FieldType.char)) ∈ lw_all := lw_g (lw_at lw_m11 185 rfl) rfl
theorem q2683 : (Jvm.Cond.methodLink "java/lang/AbstractStringBuilder" (138 : Nat) ({ cls := "java/lang/Math", name := "min", desc := "(II)I" } : Jvm.MethodName)) ∈ lw_all := lw_g (lw_at lw_m11 186 rfl) rfl
theorem q2684 : (Jvm.Cond.methodLink "java/lang/AbstractStringBuilder" (144 : Nat) ({ cls := "java/lang/String", name := "checkIndex", desc := "(II)V" } : Jvm.MethodName)) ∈ lw_all := lw_g (lw_at lw_m11 187 rfl) rfl
theorem q2685 : (Jvm.Cond.methodLink "java/lang/AbstractStringBuilder" (148 : Nat) ({ cls := "java/lang/StringUTF16", name := "getChar", desc := "([BI)C" } : Jvm.MethodName)) ∈ lw_all := lw_g (lw_at lw_m11 188 rfl) rfl
theorem q3155 : (Jvm.Cond.sameMethod "java/lang/AbstractStringBuilder" "java/lang/AbstractStringBuilder" "compareTo" "(Ljava/lang/AbstractStringBuilder;)I") ∈ lw_all := lw_g (lw_at lw_m13 178 rfl) rfl
theorem q3160 : (Jvm.Cond.sameMethod "java/lang/AbstractStringBuilder" "java/lang/AbstractStringBuilder" "length" "()I") ∈ lw_all := lw_g (lw_at lw_m13 183 rfl) rfl
theorem q3161 : (Jvm.Cond.sameMethod "java/lang/AbstractStringBuilder" "java/lang/AbstractStringBuilder" "append" "(C)Ljava/lang/AbstractStringBuilder;") ∈ lw_all := lw_g (lw_at lw_m13 184 rfl) rfl
theorem q3162 : (Jvm.Cond.sameMethod "java/lang/AbstractStringBuilder" "java/lang/AbstractStringBuilder" "ensureCapacityInternal" "(I)V") ∈ lw_all := lw_g (lw_at lw_m13 185 rfl) rfl
theorem q3163 : (Jvm.Cond.sameMethod "java/lang/AbstractStringBuilder" "java/lang/AbstractStringBuilder" "newCapacity" "(I)I") ∈ lw_all := lw_g (lw_at lw_m13 186 rfl) rfl
theorem q3164 : (Jvm.Cond.sameMethod "java/lang/AbstractStringBuilder" "java/lang/AbstractStringBuilder" "inflate" "()V") ∈ lw_all := lw_g (lw_at lw_m13 187 rfl) rfl
theorem q3165 : (Jvm.Cond.sameMethod "java/lang/AbstractStringBuilder" "java/lang/AbstractStringBuilder" "setLength" "(I)V") ∈ lw_all := lw_g (lw_at lw_m13 188 rfl) rfl
theorem q3166 : (Jvm.Cond.sameMethod "java/lang/AbstractStringBuilder" "java/lang/AbstractStringBuilder" "charAt" "(I)C") ∈ lw_all := lw_g (lw_at lw_m13 189 rfl) rfl
/-! java/lang/StringBuilder -/
set_option maxRecDepth 100000
def RJ8 : String := "java/lang/StringBuilder"
def TJ8 : u_T := fun k => match k with
  | 0 => ("java/lang/AbstractStringBuilder", "value", "[B", false)
  | 1 => ("java/lang/AbstractStringBuilder", "coder", "B", false)
  | 2 => ("java/lang/AbstractStringBuilder", "maybeLatin1", "Z", false)
  | _ => ("java/lang/AbstractStringBuilder", "count", "I", false)
def tyJ8 : Nat → FieldType := fun k => match k with
  | 0 => .array .byte
  | 1 => .byte
  | 2 => .boolean
  | _ => .int
abbrev wsJ80 : List Cond := u_ws RJ8 TJ8 4
theorem nmJ8 : ∀ a, a < 4 → ∀ b, b < 4 → a ≠ b → (TJ8 a).2.1 ≠ (TJ8 b).2.1 := by decide +kernel
theorem tyJ8_ok : ∀ k, k < 4 → parseFieldDescriptor (TJ8 k).2.2.1 = some (tyJ8 k) := by decide +kernel
abbrev cJ8_init : ByteArray := prog_29_method_1_code
def yJ8_init : MethodName := ⟨RJ8, "<init>", "()V"⟩
def dkwJ8_init_0 : List UInt8 := [42, 16, 16, 183, 0, 1, 177]
abbrev dktJ8_init_0 : List UInt8 := dkwJ8_init_0 ++ []
theorem dksJ8_init_0 : cJ8_init.data.toList.drop 0 = dktJ8_init_0 := by decide +kernel
theorem dJ8_init_0 : decode cJ8_init 0 = .ok (.aload_n 0, 1) := dk_42 (dk_at dksJ8_init_0 0 rfl rfl)
theorem dJ8_init_1 : decode cJ8_init 1 = .ok (.bipush 16, 2) := dk_16 16 (dk_at dksJ8_init_0 1 rfl rfl)
theorem dJ8_init_3 : decode cJ8_init 3 = .ok (.invokespecial 1, 3) := dk_183 0 1 (dk_at dksJ8_init_0 3 rfl rfl)
theorem dJ8_init_6 : decode cJ8_init 6 = .ok (.return_, 1) := dk_177 (dk_at dksJ8_init_0 6 rfl rfl)
abbrev cJ8_length : ByteArray := prog_29_method_93_code
def yJ8_length : MethodName := ⟨RJ8, "length", "()I"⟩
theorem dJ8_length_0 : decode cJ8_length 0 = .ok (.aload_n 0, 1) := by decide +kernel
theorem dJ8_length_1 : decode cJ8_length 1 = .ok (.invokespecial 343, 3) := by decide +kernel
theorem dJ8_length_4 : decode cJ8_length 4 = .ok (.ireturn, 1) := by decide +kernel
abbrev cJ8_append : ByteArray := prog_29_method_14_code
def yJ8_append : MethodName := ⟨RJ8, "append", "(C)Ljava/lang/StringBuilder;"⟩
def dkwJ8_append_0 : List UInt8 := [42, 27, 183, 0, 50, 87, 42, 176]
abbrev dktJ8_append_0 : List UInt8 := dkwJ8_append_0 ++ []
theorem dksJ8_append_0 : cJ8_append.data.toList.drop 0 = dktJ8_append_0 := by decide +kernel
theorem dJ8_append_0 : decode cJ8_append 0 = .ok (.aload_n 0, 1) := dk_42 (dk_at dksJ8_append_0 0 rfl rfl)
theorem dJ8_append_1 : decode cJ8_append 1 = .ok (.iload_n 1, 1) := dk_27 (dk_at dksJ8_append_0 1 rfl rfl)
theorem dJ8_append_2 : decode cJ8_append 2 = .ok (.invokespecial 50, 3) := dk_183 0 50 (dk_at dksJ8_append_0 2 rfl rfl)
theorem dJ8_append_5 : decode cJ8_append 5 = .ok (.pop, 1) := dk_87 (dk_at dksJ8_append_0 5 rfl rfl)
theorem dJ8_append_6 : decode cJ8_append 6 = .ok (.aload_n 0, 1) := dk_42 (dk_at dksJ8_append_0 6 rfl rfl)
theorem dJ8_append_7 : decode cJ8_append 7 = .ok (.areturn, 1) := dk_176 (dk_at dksJ8_append_0 7 rfl rfl)
abbrev cJ8_setLength : ByteArray := prog_29_method_89_code
def yJ8_setLength : MethodName := ⟨RJ8, "setLength", "(I)V"⟩
def dkwJ8_setLength_0 : List UInt8 := [42, 27, 183, 1, 77, 177]
abbrev dktJ8_setLength_0 : List UInt8 := dkwJ8_setLength_0 ++ []
theorem dksJ8_setLength_0 : cJ8_setLength.data.toList.drop 0 = dktJ8_setLength_0 := by decide +kernel
theorem dJ8_setLength_0 : decode cJ8_setLength 0 = .ok (.aload_n 0, 1) := dk_42 (dk_at dksJ8_setLength_0 0 rfl rfl)
theorem dJ8_setLength_1 : decode cJ8_setLength 1 = .ok (.iload_n 1, 1) := dk_27 (dk_at dksJ8_setLength_0 1 rfl rfl)
theorem dJ8_setLength_2 : decode cJ8_setLength 2 = .ok (.invokespecial 333, 3) := dk_183 1 77 (dk_at dksJ8_setLength_0 2 rfl rfl)
theorem dJ8_setLength_5 : decode cJ8_setLength 5 = .ok (.return_, 1) := dk_177 (dk_at dksJ8_setLength_0 5 rfl rfl)
abbrev cJ8_charAt : ByteArray := prog_29_method_88_code
def yJ8_charAt : MethodName := ⟨RJ8, "charAt", "(I)C"⟩
def dkwJ8_charAt_0 : List UInt8 := [42, 27, 183, 1, 73, 172]
abbrev dktJ8_charAt_0 : List UInt8 := dkwJ8_charAt_0 ++ []
theorem dksJ8_charAt_0 : cJ8_charAt.data.toList.drop 0 = dktJ8_charAt_0 := by decide +kernel
theorem dJ8_charAt_0 : decode cJ8_charAt 0 = .ok (.aload_n 0, 1) := dk_42 (dk_at dksJ8_charAt_0 0 rfl rfl)
theorem dJ8_charAt_1 : decode cJ8_charAt 1 = .ok (.iload_n 1, 1) := dk_27 (dk_at dksJ8_charAt_0 1 rfl rfl)
theorem dJ8_charAt_2 : decode cJ8_charAt 2 = .ok (.invokespecial 329, 3) := dk_183 1 73 (dk_at dksJ8_charAt_0 2 rfl rfl)
theorem dJ8_charAt_5 : decode cJ8_charAt 5 = .ok (.ireturn, 1) := dk_172 (dk_at dksJ8_charAt_0 5 rfl rfl)
theorem q109 : (Jvm.Cond.initialized "java/lang/StringBuilder") ∈ lw_all := lw_g (lw_at lw_m1 12 rfl) rfl
theorem q329 : (Jvm.Cond.instantiable "java/lang/StringBuilder" (4 : Nat)) ∈ lw_all := lw_g (lw_at lw_m1 232 rfl) rfl
theorem q331 : (Jvm.Cond.instanceMethod ({ cls := "java/lang/StringBuilder", name := "<init>", desc := "()V" } : Jvm.MethodName)) ∈ lw_all := lw_g (lw_at lw_m1 234 rfl) rfl
theorem q332 : (Jvm.Cond.code ({ cls := "java/lang/StringBuilder", name := "<init>", desc := "()V" } : Jvm.MethodName) prog_29_method_1_code (1 : Nat) (Option.none : Option Jvm.ClassFile.FieldType)) ∈ lw_all := lw_g (lw_at lw_m1 235 rfl) rfl
theorem q333 : (Jvm.Cond.methodLink "java/lang/StringBuilder" (1 : Nat) ({ cls := "java/lang/AbstractStringBuilder", name := "<init>", desc := "(I)V" } : Jvm.MethodName)) ∈ lw_all := lw_g (lw_at lw_m1 236 rfl) rfl
theorem q350 : (Jvm.Cond.lays "java/lang/StringBuilder" "java/lang/AbstractStringBuilder" "value" "[B") ∈ lw_all := lw_g (lw_at lw_m2 13 rfl) rfl
theorem q352 : (Jvm.Cond.lays "java/lang/StringBuilder" "java/lang/AbstractStringBuilder" "coder" "B") ∈ lw_all := lw_g (lw_at lw_m2 15 rfl) rfl
theorem q354 : (Jvm.Cond.lays "java/lang/StringBuilder" "java/lang/AbstractStringBuilder" "maybeLatin1" "Z") ∈ lw_all := lw_g (lw_at lw_m2 17 rfl) rfl
theorem q356 : (Jvm.Cond.lays "java/lang/StringBuilder" "java/lang/AbstractStringBuilder" "count" "I") ∈ lw_all := lw_g (lw_at lw_m2 19 rfl) rfl
theorem q358 : (Jvm.Cond.superclass "java/lang/StringBuilder" "java/lang/AbstractStringBuilder") ∈ lw_all := lw_g (lw_at lw_m2 21 rfl) rfl
theorem q1002 : (Jvm.Cond.selects "java/lang/StringBuilder" ({ cls := "java/lang/Object", name := "hashCode", desc := "()I" } : Jvm.MethodName) ({ cls := "java/lang/Object", name := "hashCode", desc := "()I" } : Jvm.MethodName)) ∈ lw_all := lw_g (lw_at lw_m4 185 rfl) rfl
theorem q1115 : (Jvm.Cond.selects "java/lang/StringBuilder" ({ cls := "java/lang/Object", name := "getClass", desc := "()Ljava/lang/Class;" } : Jvm.MethodName) ({ cls := "java/lang/Object", name := "getClass", desc := "()Ljava/lang/Class;" } : Jvm.MethodName)) ∈ lw_all := lw_g (lw_at lw_m5 58 rfl) rfl
theorem q1322 : (Jvm.Cond.castable "java/lang/StringBuilder" "java/lang/Comparable") ∈ lw_tbl := lw_at lw_m6 25 rfl
theorem q1323 : (Jvm.Cond.selects "java/lang/StringBuilder" ({ cls := "java/lang/Comparable", name := "compareTo", desc := "(Ljava/lang/Object;)I" } : Jvm.MethodName) ({ cls := "java/lang/StringBuilder", name := "compareTo", desc := "(Ljava/lang/Object;)I" } : Jvm.MethodName)) ∈ lw_all := lw_g (lw_at lw_m6 26 rfl) rfl
theorem q1324 : (Jvm.Cond.unhidden "java/lang/StringBuilder" "compareTo" "(Ljava/lang/Object;)I") ∈ lw_tbl := lw_at lw_m6 27 rfl
theorem q1325 : (Jvm.Cond.instanceMethod ({ cls := "java/lang/StringBuilder", name := "compareTo", desc := "(Ljava/lang/Object;)I" } : Jvm.MethodName)) ∈ lw_all := lw_g (lw_at lw_m6 28 rfl) rfl
theorem q1326 : (Jvm.Cond.publicMethod ({ cls := "java/lang/StringBuilder", name := "compareTo", desc := "(Ljava/lang/Object;)I" } : Jvm.MethodName)) ∈ lw_tbl := lw_at lw_m6 29 rfl
theorem q1327 : (Jvm.Cond.code ({ cls := "java/lang/StringBuilder", name := "compareTo", desc := "(Ljava/lang/Object;)I" } : Jvm.MethodName) prog_29_method_97_code (2 : Nat) (Option.some Jvm.ClassFile.FieldType.int)) ∈ lw_all := lw_g (lw_at lw_m6 30 rfl) rfl
theorem q1328 : (Jvm.Cond.classLink "java/lang/StringBuilder" (24 : Nat) "java/lang/StringBuilder") ∈ lw_all := lw_g (lw_at lw_m6 31 rfl) rfl
theorem q1329 : (Jvm.Cond.methodLink "java/lang/StringBuilder" (346 : Nat) ({ cls := "java/lang/StringBuilder", name := "compareTo", desc := "(Ljava/lang/StringBuilder;)I" } : Jvm.MethodName)) ∈ lw_all := lw_g (lw_at lw_m6 32 rfl) rfl
theorem q1330 : (Jvm.Cond.instanceMethod ({ cls := "java/lang/StringBuilder", name := "compareTo", desc := "(Ljava/lang/StringBuilder;)I" } : Jvm.MethodName)) ∈ lw_all := lw_g (lw_at lw_m6 33 rfl) rfl
theorem q1331 : (Jvm.Cond.selects "java/lang/StringBuilder" ({ cls := "java/lang/StringBuilder", name := "compareTo", desc := "(Ljava/lang/StringBuilder;)I" } : Jvm.MethodName) ({ cls := "java/lang/StringBuilder", name := "compareTo", desc := "(Ljava/lang/StringBuilder;)I" } : Jvm.MethodName)) ∈ lw_all := lw_g (lw_at lw_m6 34 rfl) rfl
theorem q1332 : (Jvm.Cond.code ({ cls := "java/lang/StringBuilder", name := "compareTo", desc := "(Ljava/lang/StringBuilder;)I" } : Jvm.MethodName) prog_29_method_5_code (2 : Nat) (Option.some Jvm.ClassFile.FieldType.int)) ∈ lw_all := lw_g (lw_at lw_m6 35 rfl) rfl
theorem q1333 : (Jvm.Cond.methodLink "java/lang/StringBuilder" (13 : Nat) ({ cls := "java/lang/AbstractStringBuilder", name := "compareTo", desc := "(Ljava/lang/AbstractStringBuilder;)I" } : Jvm.MethodName)) ∈ lw_all := lw_g (lw_at lw_m6 36 rfl) rfl
theorem q1339 : (Jvm.Cond.selects "java/lang/StringBuilder" ({ cls := "java/lang/AbstractStringBuilder", name := "isLatin1", desc := "()Z" } : Jvm.MethodName) ({ cls := "java/lang/AbstractStringBuilder", name := "isLatin1", desc := "()Z" } : Jvm.MethodName)) ∈ lw_all := lw_g (lw_at lw_m6 42 rfl) rfl
theorem q1419 : (Jvm.Cond.selects "java/lang/StringBuilder" ({ cls := "java/lang/Object", name := "equals", desc := "(Ljava/lang/Object;)Z" } : Jvm.MethodName) ({ cls := "java/lang/Object", name := "equals", desc := "(Ljava/lang/Object;)Z" } : Jvm.MethodName)) ∈ lw_all := lw_g (lw_at lw_m6 122 rfl) rfl
theorem q2518 : (Jvm.Cond.instanceMethod ({ cls := "java/lang/StringBuilder", name := "length", desc := "()I" } : Jvm.MethodName)) ∈ lw_all := lw_g (lw_at lw_m11 21 rfl) rfl
theorem q2519 : (Jvm.Cond.selects "java/lang/StringBuilder" ({ cls := "java/lang/StringBuilder", name := "length", desc := "()I" } : Jvm.MethodName) ({ cls := "java/lang/StringBuilder", name := "length", desc := "()I" } : Jvm.MethodName)) ∈ lw_all := lw_g (lw_at lw_m11 22 rfl) rfl
theorem q2520 : (Jvm.Cond.code ({ cls := "java/lang/StringBuilder", name := "length", desc := "()I" } : Jvm.MethodName) prog_29_method_93_code (1 : Nat) (Option.some Jvm.ClassFile.FieldType.int)) ∈ lw_all := lw_g (lw_at lw_m11 23 rfl) rfl
theorem q2521 : (Jvm.Cond.methodLink "java/lang/StringBuilder" (343 : Nat) ({ cls := "java/lang/AbstractStringBuilder", name := "length", desc := "()I" } : Jvm.MethodName)) ∈ lw_all := lw_g (lw_at lw_m11 24 rfl) rfl
theorem q2548 : (Jvm.Cond.instanceMethod ({ cls := "java/lang/StringBuilder", name := "append", desc := "(C)Ljava/lang/StringBuilder;" } : Jvm.MethodName)) ∈ lw_all := lw_g (lw_at lw_m11 51 rfl) rfl
theorem q2549 : (Jvm.Cond.selects "java/lang/StringBuilder" ({ cls := "java/lang/StringBuilder", name := "append", desc := "(C)Ljava/lang/StringBuilder;" } : Jvm.MethodName) ({ cls := "java/lang/StringBuilder", name := "append", desc := "(C)Ljava/lang/StringBuilder;" } : Jvm.MethodName)) ∈ lw_all := lw_g (lw_at lw_m11 52 rfl) rfl
theorem q2550 : (Jvm.Cond.code ({ cls := "java/lang/StringBuilder", name := "append", desc := "(C)Ljava/lang/StringBuilder;" } : Jvm.MethodName) prog_29_method_14_code (2 : Nat) (Option.some (Jvm.ClassFile.FieldType.object "java/lang/StringBuilder"))) ∈ lw_all := lw_g (lw_at lw_m11 53 rfl) rfl
theorem q2551 : (Jvm.Cond.methodLink "java/lang/StringBuilder" (50 : Nat) ({ cls := "java/lang/AbstractStringBuilder", name := "append", desc := "(C)Ljava/lang/AbstractStringBuilder;" } : Jvm.MethodName)) ∈ lw_all := lw_g (lw_at lw_m11 54 rfl) rfl
theorem q2612 : (Jvm.Cond.instanceMethod ({ cls := "java/lang/StringBuilder", name := "setLength", desc := "(I)V" } : Jvm.MethodName)) ∈ lw_all := lw_g (lw_at lw_m11 115 rfl) rfl
theorem q2613 : (Jvm.Cond.selects "java/lang/StringBuilder" ({ cls := "java/lang/StringBuilder", name := "setLength", desc := "(I)V" } : Jvm.MethodName) ({ cls := "java/lang/StringBuilder", name := "setLength", desc := "(I)V" } : Jvm.MethodName)) ∈ lw_all := lw_g (lw_at lw_m11 116 rfl) rfl
theorem q2614 : (Jvm.Cond.code ({ cls := "java/lang/StringBuilder", name := "setLength", desc := "(I)V" } : Jvm.MethodName) prog_29_method_89_code (2 : Nat) (Option.none : Option Jvm.ClassFile.FieldType)) ∈ lw_all := lw_g (lw_at lw_m11 117 rfl) rfl
theorem q2615 : (Jvm.Cond.methodLink "java/lang/StringBuilder" (333 : Nat) ({ cls := "java/lang/AbstractStringBuilder", name := "setLength", desc := "(I)V" } : Jvm.MethodName)) ∈ lw_all := lw_g (lw_at lw_m11 118 rfl) rfl
theorem q2677 : (Jvm.Cond.instanceMethod ({ cls := "java/lang/StringBuilder", name := "charAt", desc := "(I)C" } : Jvm.MethodName)) ∈ lw_all := lw_g (lw_at lw_m11 180 rfl) rfl
theorem q2678 : (Jvm.Cond.selects "java/lang/StringBuilder" ({ cls := "java/lang/StringBuilder", name := "charAt", desc := "(I)C" } : Jvm.MethodName) ({ cls := "java/lang/StringBuilder", name := "charAt", desc := "(I)C" } : Jvm.MethodName)) ∈ lw_all := lw_g (lw_at lw_m11 181 rfl) rfl
theorem q2679 : (Jvm.Cond.code ({ cls := "java/lang/StringBuilder", name := "charAt", desc := "(I)C" } : Jvm.MethodName) prog_29_method_88_code (2 : Nat) (Option.some Jvm.ClassFile.FieldType.char)) ∈ lw_all := lw_g (lw_at lw_m11 182 rfl) rfl
theorem q2680 : (Jvm.Cond.methodLink "java/lang/StringBuilder" (329 : Nat) ({ cls := "java/lang/AbstractStringBuilder", name := "charAt", desc := "(I)C" } : Jvm.MethodName)) ∈ lw_all := lw_g (lw_at lw_m11 183 rfl) rfl
theorem q3178 : (Jvm.Cond.castable "java/lang/StringBuilder" "java/lang/Object") ∈ lw_tbl := lw_at lw_m13 201 rfl
theorem in_J8 : ∀ w ∈ wsJ80, w ∈ lw_all := lw_in wsJ80 [350, 352, 354, 356] (by decide +kernel) (by decide +kernel)
/-! java/lang/String -/
set_option maxRecDepth 100000
def RJ9 : String := "java/lang/String"
abbrev cJ9_isLatin1 : ByteArray := prog_28_method_154_code
def yJ9_isLatin1 : MethodName := ⟨RJ9, "isLatin1", "()Z"⟩
def dkwJ9_isLatin1_0 : List UInt8 := [178, 0, 38, 153, 0, 14, 42, 180, 0, 15, 154, 0, 7, 4, 167, 0, 4, 3, 172]
abbrev dktJ9_isLatin1_0 : List UInt8 := dkwJ9_isLatin1_0 ++ []
theorem dksJ9_isLatin1_0 : cJ9_isLatin1.data.toList.drop 0 = dktJ9_isLatin1_0 := by decide +kernel
theorem dJ9_isLatin1_0 : decode cJ9_isLatin1 0 = .ok (.getstatic 38, 3) := dk_178 0 38 (dk_at dksJ9_isLatin1_0 0 rfl rfl)
theorem dJ9_isLatin1_3 : decode cJ9_isLatin1 3 = .ok (.ifCond .eq 14, 3) := dk_153 0 14 (dk_at dksJ9_isLatin1_0 3 rfl rfl)
theorem dJ9_isLatin1_6 : decode cJ9_isLatin1 6 = .ok (.aload_n 0, 1) := dk_42 (dk_at dksJ9_isLatin1_0 6 rfl rfl)
theorem dJ9_isLatin1_7 : decode cJ9_isLatin1 7 = .ok (.getfield 15, 3) := dk_180 0 15 (dk_at dksJ9_isLatin1_0 7 rfl rfl)
theorem dJ9_isLatin1_10 : decode cJ9_isLatin1 10 = .ok (.ifCond .ne 7, 3) := dk_154 0 7 (dk_at dksJ9_isLatin1_0 10 rfl rfl)
theorem dJ9_isLatin1_13 : decode cJ9_isLatin1 13 = .ok (.iconst 1, 1) := dk_4 (dk_at dksJ9_isLatin1_0 13 rfl rfl)
theorem dJ9_isLatin1_14 : decode cJ9_isLatin1 14 = .ok (.goto 4, 3) := dk_167 0 4 (dk_at dksJ9_isLatin1_0 14 rfl rfl)
theorem dJ9_isLatin1_17 : decode cJ9_isLatin1 17 = .ok (.iconst 0, 1) := dk_3 (dk_at dksJ9_isLatin1_0 17 rfl rfl)
theorem dJ9_isLatin1_18 : decode cJ9_isLatin1 18 = .ok (.ireturn, 1) := dk_172 (dk_at dksJ9_isLatin1_0 18 rfl rfl)
abbrev cJ9_coder : ByteArray := prog_28_method_152_code
def yJ9_coder : MethodName := ⟨RJ9, "coder", "()B"⟩
def dkwJ9_coder_0 : List UInt8 := [178, 0, 38, 153, 0, 10, 42, 180, 0, 15, 167, 0, 4, 4, 172]
abbrev dktJ9_coder_0 : List UInt8 := dkwJ9_coder_0 ++ []
theorem dksJ9_coder_0 : cJ9_coder.data.toList.drop 0 = dktJ9_coder_0 := by decide +kernel
theorem dJ9_coder_0 : decode cJ9_coder 0 = .ok (.getstatic 38, 3) := dk_178 0 38 (dk_at dksJ9_coder_0 0 rfl rfl)
theorem dJ9_coder_3 : decode cJ9_coder 3 = .ok (.ifCond .eq 10, 3) := dk_153 0 10 (dk_at dksJ9_coder_0 3 rfl rfl)
theorem dJ9_coder_6 : decode cJ9_coder 6 = .ok (.aload_n 0, 1) := dk_42 (dk_at dksJ9_coder_0 6 rfl rfl)
theorem dJ9_coder_7 : decode cJ9_coder 7 = .ok (.getfield 15, 3) := dk_180 0 15 (dk_at dksJ9_coder_0 7 rfl rfl)
theorem dJ9_coder_10 : decode cJ9_coder 10 = .ok (.goto 4, 3) := dk_167 0 4 (dk_at dksJ9_coder_0 10 rfl rfl)
theorem dJ9_coder_13 : decode cJ9_coder 13 = .ok (.iconst 1, 1) := dk_4 (dk_at dksJ9_coder_0 13 rfl rfl)
theorem dJ9_coder_14 : decode cJ9_coder 14 = .ok (.ireturn, 1) := dk_172 (dk_at dksJ9_coder_0 14 rfl rfl)
abbrev cJ9_checkIndex : ByteArray := prog_28_method_155_code
def yJ9_checkIndex : MethodName := ⟨RJ9, "checkIndex", "(II)V"⟩
def dkwJ9_checkIndex_0 : List UInt8 := [26, 27, 178, 4, 29, 184, 4, 35, 87, 177]
abbrev dktJ9_checkIndex_0 : List UInt8 := dkwJ9_checkIndex_0 ++ []
theorem dksJ9_checkIndex_0 : cJ9_checkIndex.data.toList.drop 0 = dktJ9_checkIndex_0 := by decide +kernel
theorem dJ9_checkIndex_0 : decode cJ9_checkIndex 0 = .ok (.iload_n 0, 1) := dk_26 (dk_at dksJ9_checkIndex_0 0 rfl rfl)
theorem dJ9_checkIndex_1 : decode cJ9_checkIndex 1 = .ok (.iload_n 1, 1) := dk_27 (dk_at dksJ9_checkIndex_0 1 rfl rfl)
theorem dJ9_checkIndex_2 : decode cJ9_checkIndex 2 = .ok (.getstatic 1053, 3) := dk_178 4 29 (dk_at dksJ9_checkIndex_0 2 rfl rfl)
theorem dJ9_checkIndex_5 : decode cJ9_checkIndex 5 = .ok (.invokestatic 1059, 3) := dk_184 4 35 (dk_at dksJ9_checkIndex_0 5 rfl rfl)
theorem dJ9_checkIndex_8 : decode cJ9_checkIndex 8 = .ok (.pop, 1) := dk_87 (dk_at dksJ9_checkIndex_0 8 rfl rfl)
theorem dJ9_checkIndex_9 : decode cJ9_checkIndex 9 = .ok (.return_, 1) := dk_177 (dk_at dksJ9_checkIndex_0 9 rfl rfl)
abbrev cJ9_indexOf : ByteArray := prog_28_method_79_code
def yJ9_indexOf : MethodName := ⟨RJ9, "indexOf", "(I)I"⟩
def dkwJ9_indexOf_0 : List UInt8 := [42, 27, 3, 182, 2, 121, 172]
abbrev dktJ9_indexOf_0 : List UInt8 := dkwJ9_indexOf_0 ++ []
theorem dksJ9_indexOf_0 : cJ9_indexOf.data.toList.drop 0 = dktJ9_indexOf_0 := by decide +kernel
theorem dJ9_indexOf_0 : decode cJ9_indexOf 0 = .ok (.aload_n 0, 1) := dk_42 (dk_at dksJ9_indexOf_0 0 rfl rfl)
theorem dJ9_indexOf_1 : decode cJ9_indexOf 1 = .ok (.iload_n 1, 1) := dk_27 (dk_at dksJ9_indexOf_0 1 rfl rfl)
theorem dJ9_indexOf_2 : decode cJ9_indexOf 2 = .ok (.iconst 0, 1) := dk_3 (dk_at dksJ9_indexOf_0 2 rfl rfl)
theorem dJ9_indexOf_3 : decode cJ9_indexOf 3 = .ok (.invokevirtual 633, 3) := dk_182 2 121 (dk_at dksJ9_indexOf_0 3 rfl rfl)
theorem dJ9_indexOf_6 : decode cJ9_indexOf 6 = .ok (.ireturn, 1) := dk_172 (dk_at dksJ9_indexOf_0 6 rfl rfl)
abbrev cJ9_indexOf_2 : ByteArray := prog_28_method_80_code
def yJ9_indexOf_2 : MethodName := ⟨RJ9, "indexOf", "(II)I"⟩
def dkwJ9_indexOf_2_1 : List UInt8 := [180, 0, 9, 27, 28, 42, 182, 1, 249, 184, 2, 128, 172]
abbrev dktJ9_indexOf_2_1 : List UInt8 := dkwJ9_indexOf_2_1 ++ []
def dkwJ9_indexOf_2_0 : List UInt8 := [42, 182, 1, 236, 153, 0, 19, 42, 180, 0, 9, 27, 28, 42, 182, 1, 249, 184, 2, 125, 167, 0, 16, 42]
abbrev dktJ9_indexOf_2_0 : List UInt8 := dkwJ9_indexOf_2_0 ++ dktJ9_indexOf_2_1
theorem dksJ9_indexOf_2_0 : cJ9_indexOf_2.data.toList.drop 0 = dktJ9_indexOf_2_0 := by decide +kernel
theorem dksJ9_indexOf_2_1 : cJ9_indexOf_2.data.toList.drop 24 = dktJ9_indexOf_2_1 := dk_seg dksJ9_indexOf_2_0 24 rfl rfl
theorem dJ9_indexOf_2_0 : decode cJ9_indexOf_2 0 = .ok (.aload_n 0, 1) := dk_42 (dk_at dksJ9_indexOf_2_0 0 rfl rfl)
theorem dJ9_indexOf_2_1 : decode cJ9_indexOf_2 1 = .ok (.invokevirtual 492, 3) := dk_182 1 236 (dk_at dksJ9_indexOf_2_0 1 rfl rfl)
theorem dJ9_indexOf_2_4 : decode cJ9_indexOf_2 4 = .ok (.ifCond .eq 19, 3) := dk_153 0 19 (dk_at dksJ9_indexOf_2_0 4 rfl rfl)
theorem dJ9_indexOf_2_7 : decode cJ9_indexOf_2 7 = .ok (.aload_n 0, 1) := dk_42 (dk_at dksJ9_indexOf_2_0 7 rfl rfl)
theorem dJ9_indexOf_2_8 : decode cJ9_indexOf_2 8 = .ok (.getfield 9, 3) := dk_180 0 9 (dk_at dksJ9_indexOf_2_0 8 rfl rfl)
theorem dJ9_indexOf_2_11 : decode cJ9_indexOf_2 11 = .ok (.iload_n 1, 1) := dk_27 (dk_at dksJ9_indexOf_2_0 11 rfl rfl)
theorem dJ9_indexOf_2_12 : decode cJ9_indexOf_2 12 = .ok (.iload_n 2, 1) := dk_28 (dk_at dksJ9_indexOf_2_0 12 rfl rfl)
theorem dJ9_indexOf_2_13 : decode cJ9_indexOf_2 13 = .ok (.aload_n 0, 1) := dk_42 (dk_at dksJ9_indexOf_2_0 13 rfl rfl)
theorem dJ9_indexOf_2_14 : decode cJ9_indexOf_2 14 = .ok (.invokevirtual 505, 3) := dk_182 1 249 (dk_at dksJ9_indexOf_2_0 14 rfl rfl)
theorem dJ9_indexOf_2_17 : decode cJ9_indexOf_2 17 = .ok (.invokestatic 637, 3) := dk_184 2 125 (dk_at dksJ9_indexOf_2_0 17 rfl rfl)
theorem dJ9_indexOf_2_20 : decode cJ9_indexOf_2 20 = .ok (.goto 16, 3) := dk_167 0 16 (dk_at dksJ9_indexOf_2_0 20 rfl rfl)
theorem dJ9_indexOf_2_23 : decode cJ9_indexOf_2 23 = .ok (.aload_n 0, 1) := dk_42 (dk_at dksJ9_indexOf_2_0 23 rfl rfl)
theorem dJ9_indexOf_2_24 : decode cJ9_indexOf_2 24 = .ok (.getfield 9, 3) := dk_180 0 9 (dk_at dksJ9_indexOf_2_1 0 rfl rfl)
theorem dJ9_indexOf_2_27 : decode cJ9_indexOf_2 27 = .ok (.iload_n 1, 1) := dk_27 (dk_at dksJ9_indexOf_2_1 3 rfl rfl)
theorem dJ9_indexOf_2_28 : decode cJ9_indexOf_2 28 = .ok (.iload_n 2, 1) := dk_28 (dk_at dksJ9_indexOf_2_1 4 rfl rfl)
theorem dJ9_indexOf_2_29 : decode cJ9_indexOf_2 29 = .ok (.aload_n 0, 1) := dk_42 (dk_at dksJ9_indexOf_2_1 5 rfl rfl)
theorem dJ9_indexOf_2_30 : decode cJ9_indexOf_2 30 = .ok (.invokevirtual 505, 3) := dk_182 1 249 (dk_at dksJ9_indexOf_2_1 6 rfl rfl)
theorem dJ9_indexOf_2_33 : decode cJ9_indexOf_2 33 = .ok (.invokestatic 640, 3) := dk_184 2 128 (dk_at dksJ9_indexOf_2_1 9 rfl rfl)
theorem dJ9_indexOf_2_36 : decode cJ9_indexOf_2 36 = .ok (.ireturn, 1) := dk_172 (dk_at dksJ9_indexOf_2_1 12 rfl rfl)
abbrev cJ9_length : ByteArray := prog_28_method_54_code
def yJ9_length : MethodName := ⟨RJ9, "length", "()I"⟩
def dkwJ9_length_0 : List UInt8 := [42, 180, 0, 9, 190, 42, 182, 1, 79, 122, 172]
abbrev dktJ9_length_0 : List UInt8 := dkwJ9_length_0 ++ []
theorem dksJ9_length_0 : cJ9_length.data.toList.drop 0 = dktJ9_length_0 := by decide +kernel
theorem dJ9_length_0 : decode cJ9_length 0 = .ok (.aload_n 0, 1) := dk_42 (dk_at dksJ9_length_0 0 rfl rfl)
theorem dJ9_length_1 : decode cJ9_length 1 = .ok (.getfield 9, 3) := dk_180 0 9 (dk_at dksJ9_length_0 1 rfl rfl)
theorem dJ9_length_4 : decode cJ9_length 4 = .ok (.arraylength, 1) := dk_190 (dk_at dksJ9_length_0 4 rfl rfl)
theorem dJ9_length_5 : decode cJ9_length 5 = .ok (.aload_n 0, 1) := dk_42 (dk_at dksJ9_length_0 5 rfl rfl)
theorem dJ9_length_6 : decode cJ9_length 6 = .ok (.invokevirtual 335, 3) := dk_182 1 79 (dk_at dksJ9_length_0 6 rfl rfl)
theorem dJ9_length_9 : decode cJ9_length 9 = .ok (.ishr, 1) := dk_122 (dk_at dksJ9_length_0 9 rfl rfl)
theorem dJ9_length_10 : decode cJ9_length 10 = .ok (.ireturn, 1) := dk_172 (dk_at dksJ9_length_0 10 rfl rfl)
theorem q110 : (Jvm.Cond.initialized "java/lang/String") ∈ lw_all := lw_g (lw_at lw_m1 13 rfl) rfl
theorem q338 : (Jvm.Cond.laysStatic "java/lang/String" "COMPACT_STRINGS" "Z") ∈ lw_tbl := lw_at lw_m2 1 rfl
theorem q937 : (Jvm.Cond.selects "java/lang/String" ({ cls := "java/lang/Object", name := "hashCode", desc := "()I" } : Jvm.MethodName) ({ cls := "java/lang/String", name := "hashCode", desc := "()I" } : Jvm.MethodName)) ∈ lw_all := lw_g (lw_at lw_m4 120 rfl) rfl
theorem q938 : (Jvm.Cond.instanceMethod ({ cls := "java/lang/String", name := "hashCode", desc := "()I" } : Jvm.MethodName)) ∈ lw_all := lw_g (lw_at lw_m4 121 rfl) rfl
theorem q939 : (Jvm.Cond.code ({ cls := "java/lang/String", name := "hashCode", desc := "()I" } : Jvm.MethodName) prog_28_method_78_code (2 : Nat) (Option.some Jvm.ClassFile.FieldType.int)) ∈ lw_all := lw_g (lw_at lw_m4 122 rfl) rfl
theorem q940 : (Jvm.Cond.methodLink "java/lang/String" (492 : Nat) ({ cls := "java/lang/String", name := "isLatin1", desc := "()Z" } : Jvm.MethodName)) ∈ lw_all := lw_g (lw_at lw_m4 123 rfl) rfl
theorem q941 : (Jvm.Cond.instanceMethod ({ cls := "java/lang/String", name := "isLatin1", desc := "()Z" } : Jvm.MethodName)) ∈ lw_all := lw_g (lw_at lw_m4 124 rfl) rfl
theorem q942 : (Jvm.Cond.selects "java/lang/String" ({ cls := "java/lang/String", name := "isLatin1", desc := "()Z" } : Jvm.MethodName) ({ cls := "java/lang/String", name := "isLatin1", desc := "()Z" } : Jvm.MethodName)) ∈ lw_all := lw_g (lw_at lw_m4 125 rfl) rfl
theorem q943 : (Jvm.Cond.code ({ cls := "java/lang/String", name := "isLatin1", desc := "()Z" } : Jvm.MethodName) prog_28_method_154_code (1 : Nat) (Option.some Jvm.ClassFile.FieldType.boolean)) ∈ lw_all := lw_g (lw_at lw_m4 126 rfl) rfl
theorem q944 : (Jvm.Cond.fieldLink "java/lang/String" (38 : Nat) "java/lang/String" "COMPACT_STRINGS" "Z") ∈ lw_all := lw_g (lw_at lw_m4 127 rfl) rfl
theorem q945 : (Jvm.Cond.methodLink "java/lang/String" (628 : Nat) ({ cls := "java/lang/StringLatin1", name := "hashCode", desc := "([B)I" } : Jvm.MethodName)) ∈ lw_all := lw_g (lw_at lw_m4 128 rfl) rfl
theorem q997 : (Jvm.Cond.methodLink "java/lang/String" (632 : Nat) ({ cls := "java/lang/StringUTF16", name := "hashCode", desc := "([B)I" } : Jvm.MethodName)) ∈ lw_all := lw_g (lw_at lw_m4 180 rfl) rfl
theorem q1172 : (Jvm.Cond.castable "java/lang/String" "java/lang/Comparable") ∈ lw_tbl := lw_at lw_m5 115 rfl
theorem q1173 : (Jvm.Cond.selects "java/lang/String" ({ cls := "java/lang/Comparable", name := "compareTo", desc := "(Ljava/lang/Object;)I" } : Jvm.MethodName) ({ cls := "java/lang/String", name := "compareTo", desc := "(Ljava/lang/Object;)I" } : Jvm.MethodName)) ∈ lw_all := lw_g (lw_at lw_m5 116 rfl) rfl
theorem q1174 : (Jvm.Cond.unhidden "java/lang/String" "compareTo" "(Ljava/lang/Object;)I") ∈ lw_tbl := lw_at lw_m5 117 rfl
theorem q1175 : (Jvm.Cond.instanceMethod ({ cls := "java/lang/String", name := "compareTo", desc := "(Ljava/lang/Object;)I" } : Jvm.MethodName)) ∈ lw_all := lw_g (lw_at lw_m5 118 rfl) rfl
theorem q1176 : (Jvm.Cond.publicMethod ({ cls := "java/lang/String", name := "compareTo", desc := "(Ljava/lang/Object;)I" } : Jvm.MethodName)) ∈ lw_tbl := lw_at lw_m5 119 rfl
theorem q1177 : (Jvm.Cond.code ({ cls := "java/lang/String", name := "compareTo", desc := "(Ljava/lang/Object;)I" } : Jvm.MethodName) prog_28_method_162_code (2 : Nat) (Option.some Jvm.ClassFile.FieldType.int)) ∈ lw_all := lw_g (lw_at lw_m5 120 rfl) rfl
theorem q1178 : (Jvm.Cond.classLink "java/lang/String" (10 : Nat) "java/lang/String") ∈ lw_all := lw_g (lw_at lw_m5 121 rfl) rfl
theorem q1179 : (Jvm.Cond.methodLink "java/lang/String" (1084 : Nat) ({ cls := "java/lang/String", name := "compareTo", desc := "(Ljava/lang/String;)I" } : Jvm.MethodName)) ∈ lw_all := lw_g (lw_at lw_m5 122 rfl) rfl
theorem q1180 : (Jvm.Cond.instanceMethod ({ cls := "java/lang/String", name := "compareTo", desc := "(Ljava/lang/String;)I" } : Jvm.MethodName)) ∈ lw_all := lw_g (lw_at lw_m5 123 rfl) rfl
theorem q1181 : (Jvm.Cond.selects "java/lang/String" ({ cls := "java/lang/String", name := "compareTo", desc := "(Ljava/lang/String;)I" } : Jvm.MethodName) ({ cls := "java/lang/String", name := "compareTo", desc := "(Ljava/lang/String;)I" } : Jvm.MethodName)) ∈ lw_all := lw_g (lw_at lw_m5 124 rfl) rfl
theorem q1182 : (Jvm.Cond.code ({ cls := "java/lang/String", name := "compareTo", desc := "(Ljava/lang/String;)I" } : Jvm.MethodName) prog_28_method_71_code (5 : Nat) (Option.some Jvm.ClassFile.FieldType.int)) ∈ lw_all := lw_g (lw_at lw_m5 125 rfl) rfl
theorem q1183 : (Jvm.Cond.methodLink "java/lang/String" (335 : Nat) ({ cls := "java/lang/String", name := "coder", desc := "()B" } : Jvm.MethodName)) ∈ lw_all := lw_g (lw_at lw_m5 126 rfl) rfl
theorem q1184 : (Jvm.Cond.instanceMethod ({ cls := "java/lang/String", name := "coder", desc := "()B" } : Jvm.MethodName)) ∈ lw_all := lw_g (lw_at lw_m5 127 rfl) rfl
theorem q1185 : (Jvm.Cond.selects "java/lang/String" ({ cls := "java/lang/String", name := "coder", desc := "()B" } : Jvm.MethodName) ({ cls := "java/lang/String", name := "coder", desc := "()B" } : Jvm.MethodName)) ∈ lw_all := lw_g (lw_at lw_m5 128 rfl) rfl
theorem q1186 : (Jvm.Cond.code ({ cls := "java/lang/String", name := "coder", desc := "()B" } : Jvm.MethodName) prog_28_method_152_code (1 : Nat) (Option.some Jvm.ClassFile.FieldType.byte)) ∈ lw_all := lw_g (lw_at lw_m5 129 rfl) rfl
theorem q1187 : (Jvm.Cond.methodLink "java/lang/String" (586 : Nat) ({ cls := "java/lang/StringLatin1", name := "compareTo", desc := "([B[B)I" } : Jvm.MethodName)) ∈ lw_all := lw_g (lw_at lw_m5 130 rfl) rfl
theorem q1300 : (Jvm.Cond.methodLink "java/lang/String" (590 : Nat) ({ cls := "java/lang/StringUTF16", name := "compareTo", desc := "([B[B)I" } : Jvm.MethodName)) ∈ lw_all := lw_g (lw_at lw_m6 3 rfl) rfl
theorem q1307 : (Jvm.Cond.methodLink "java/lang/String" (591 : Nat) ({ cls := "java/lang/StringLatin1", name := "compareToUTF16", desc := "([B[B)I" } : Jvm.MethodName)) ∈ lw_all := lw_g (lw_at lw_m6 10 rfl) rfl
theorem q1318 : (Jvm.Cond.methodLink "java/lang/String" (594 : Nat) ({ cls := "java/lang/StringUTF16", name := "compareToLatin1", desc := "([B[B)I" } : Jvm.MethodName)) ∈ lw_all := lw_g (lw_at lw_m6 21 rfl) rfl
theorem q1349 : (Jvm.Cond.static ({ cls := "java/lang/String", name := "checkOffset", desc := "(II)V" } : Jvm.MethodName)) ∈ lw_all := lw_g (lw_at lw_m6 52 rfl) rfl
theorem q1350 : (Jvm.Cond.code ({ cls := "java/lang/String", name := "checkOffset", desc := "(II)V" } : Jvm.MethodName) prog_28_method_156_code (2 : Nat) (Option.none : Option Jvm.ClassFile.FieldType)) ∈ lw_all := lw_g (lw_at lw_m6 53 rfl) rfl
theorem q1351 : (Jvm.Cond.fieldLink "java/lang/String" (1053 : Nat) "jdk/internal/util/Preconditions" "SIOOBE_FORMATTER" "Ljava/util/function/BiFunction;") ∈ lw_all := lw_g (lw_at lw_m6 54 rfl) rfl
theorem q1353 : (Jvm.Cond.methodLink "java/lang/String" (1062 : Nat) ({ cls := "jdk/internal/util/Preconditions", name := "checkFromToIndex", desc := "(IIILjava/util/function/BiFunction;)I" } : Jvm.MethodName)) ∈ lw_all := lw_g (lw_at lw_m6 56 rfl) rfl
theorem q1413 : (Jvm.Cond.selects "java/lang/String" ({ cls := "java/lang/Object", name := "equals", desc := "(Ljava/lang/Object;)Z" } : Jvm.MethodName) ({ cls := "java/lang/String", name := "equals", desc := "(Ljava/lang/Object;)Z" } : Jvm.MethodName)) ∈ lw_all := lw_g (lw_at lw_m6 116 rfl) rfl
theorem q1414 : (Jvm.Cond.instanceMethod ({ cls := "java/lang/String", name := "equals", desc := "(Ljava/lang/Object;)Z" } : Jvm.MethodName)) ∈ lw_all := lw_g (lw_at lw_m6 117 rfl) rfl
theorem q1415 : (Jvm.Cond.code ({ cls := "java/lang/String", name := "equals", desc := "(Ljava/lang/Object;)Z" } : Jvm.MethodName) prog_28_method_66_code (3 : Nat) (Option.some Jvm.ClassFile.FieldType.boolean)) ∈ lw_all := lw_g (lw_at lw_m6 118 rfl) rfl
theorem q1416 : (Jvm.Cond.methodLink "java/lang/String" (541 : Nat) ({ cls := "java/lang/StringLatin1", name := "equals", desc := "([B[B)Z" } : Jvm.MethodName)) ∈ lw_all := lw_g (lw_at lw_m6 119 rfl) rfl
theorem q2589 : (Jvm.Cond.static ({ cls := "java/lang/String", name := "checkBoundsOffCount", desc := "(III)I" } : Jvm.MethodName)) ∈ lw_all := lw_g (lw_at lw_m11 92 rfl) rfl
theorem q2590 : (Jvm.Cond.code ({ cls := "java/lang/String", name := "checkBoundsOffCount", desc := "(III)I" } : Jvm.MethodName) prog_28_method_157_code (3 : Nat) (Option.some Jvm.ClassFile.FieldType.int)) ∈ lw_all := lw_g (lw_at lw_m11 93 rfl) rfl
theorem q2591 : (Jvm.Cond.methodLink "java/lang/String" (1065 : Nat) ({ cls := "jdk/internal/util/Preconditions", name := "checkFromIndexSize", desc := "(IIILjava/util/function/BiFunction;)I" } : Jvm.MethodName)) ∈ lw_all := lw_g (lw_at lw_m11 94 rfl) rfl
theorem q2604 : (Jvm.Cond.static ({ cls := "java/lang/String", name := "checkIndex", desc := "(II)V" } : Jvm.MethodName)) ∈ lw_all := lw_g (lw_at lw_m11 107 rfl) rfl
theorem q2605 : (Jvm.Cond.code ({ cls := "java/lang/String", name := "checkIndex", desc := "(II)V" } : Jvm.MethodName) prog_28_method_155_code (2 : Nat) (Option.none : Option Jvm.ClassFile.FieldType)) ∈ lw_all := lw_g (lw_at lw_m11 108 rfl) rfl
theorem q2606 : (Jvm.Cond.methodLink "java/lang/String" (1059 : Nat) ({ cls := "jdk/internal/util/Preconditions", name := "checkIndex", desc := "(IILjava/util/function/BiFunction;)I" } : Jvm.MethodName)) ∈ lw_all := lw_g (lw_at lw_m11 109 rfl) rfl
theorem q2687 : (Jvm.Cond.instanceMethod ({ cls := "java/lang/String", name := "indexOf", desc := "(I)I" } : Jvm.MethodName)) ∈ lw_all := lw_g (lw_at lw_m11 190 rfl) rfl
theorem q2688 : (Jvm.Cond.selects "java/lang/String" ({ cls := "java/lang/String", name := "indexOf", desc := "(I)I" } : Jvm.MethodName) ({ cls := "java/lang/String", name := "indexOf", desc := "(I)I" } : Jvm.MethodName)) ∈ lw_all := lw_g (lw_at lw_m11 191 rfl) rfl
theorem q2689 : (Jvm.Cond.code ({ cls := "java/lang/String", name := "indexOf", desc := "(I)I" } : Jvm.MethodName) prog_28_method_79_code (2 : Nat) (Option.some Jvm.ClassFile.FieldType.int)) ∈ lw_all := lw_g (lw_at lw_m11 192 rfl) rfl
theorem q2690 : (Jvm.Cond.methodLink "java/lang/String" (633 : Nat) ({ cls := "java/lang/String", name := "indexOf", desc := "(II)I" } : Jvm.MethodName)) ∈ lw_all := lw_g (lw_at lw_m11 193 rfl) rfl
theorem q2691 : (Jvm.Cond.instanceMethod ({ cls := "java/lang/String", name := "indexOf", desc := "(II)I" } : Jvm.MethodName)) ∈ lw_all := lw_g (lw_at lw_m11 194 rfl) rfl
theorem q2692 : (Jvm.Cond.selects "java/lang/String" ({ cls := "java/lang/String", name := "indexOf", desc := "(II)I" } : Jvm.MethodName) ({ cls := "java/lang/String", name := "indexOf", desc := "(II)I" } : Jvm.MethodName)) ∈ lw_all := lw_g (lw_at lw_m11 195 rfl) rfl
theorem q2693 : (Jvm.Cond.code ({ cls := "java/lang/String", name := "indexOf", desc := "(II)I" } : Jvm.MethodName) prog_28_method_80_code (3 : Nat) (Option.some Jvm.ClassFile.FieldType.int)) ∈ lw_all := lw_g (lw_at lw_m11 196 rfl) rfl
theorem q2694 : (Jvm.Cond.methodLink "java/lang/String" (505 : Nat) ({ cls := "java/lang/String", name := "length", desc := "()I" } : Jvm.MethodName)) ∈ lw_all := lw_g (lw_at lw_m11 197 rfl) rfl
theorem q2695 : (Jvm.Cond.instanceMethod ({ cls := "java/lang/String", name := "length", desc := "()I" } : Jvm.MethodName)) ∈ lw_all := lw_g (lw_at lw_m11 198 rfl) rfl
theorem q2696 : (Jvm.Cond.selects "java/lang/String" ({ cls := "java/lang/String", name := "length", desc := "()I" } : Jvm.MethodName) ({ cls := "java/lang/String", name := "length", desc := "()I" } : Jvm.MethodName)) ∈ lw_all := lw_g (lw_at lw_m11 199 rfl) rfl
theorem q2697 : (Jvm.Cond.code ({ cls := "java/lang/String", name := "length", desc := "()I" } : Jvm.MethodName) prog_28_method_54_code (1 : Nat) (Option.some Jvm.ClassFile.FieldType.int)) ∈ lw_all := lw_g (lw_at lw_m11 200 rfl) rfl
theorem q2698 : (Jvm.Cond.methodLink "java/lang/String" (637 : Nat) ({ cls := "java/lang/StringLatin1", name := "indexOf", desc := "([BIII)I" } : Jvm.MethodName)) ∈ lw_all := lw_g (lw_at lw_m11 201 rfl) rfl
theorem q2708 : (Jvm.Cond.methodLink "java/lang/String" (640 : Nat) ({ cls := "java/lang/StringUTF16", name := "indexOf", desc := "([BIII)I" } : Jvm.MethodName)) ∈ lw_all := lw_g (lw_at lw_m11 211 rfl) rfl
theorem q2720 : (Jvm.Cond.static ({ cls := "java/lang/String", name := "checkBoundsBeginEnd", desc := "(III)V" } : Jvm.MethodName)) ∈ lw_all := lw_g (lw_at lw_m11 223 rfl) rfl
theorem q2721 : (Jvm.Cond.code ({ cls := "java/lang/String", name := "checkBoundsBeginEnd", desc := "(III)V" } : Jvm.MethodName) prog_28_method_158_code (3 : Nat) (Option.none : Option Jvm.ClassFile.FieldType)) ∈ lw_all := lw_g (lw_at lw_m11 224 rfl) rfl
theorem q3205 : (Jvm.Cond.castable "java/lang/String" "java/lang/Object") ∈ lw_tbl := lw_at lw_m13 228 rfl
theorem q3219 : (Jvm.Cond.fieldLink "java/lang/String" (19 : Nat) "java/lang/String" "hash" "I") ∈ lw_all := lw_g (lw_at lw_m14 2 rfl) rfl
theorem q3220 : (Jvm.Cond.fieldLink "java/lang/String" (23 : Nat) "java/lang/String" "hashIsZero" "Z") ∈ lw_all := lw_g (lw_at lw_m14 3 rfl) rfl
theorem q3221 : (Jvm.Cond.fieldLink "java/lang/String" (15 : Nat) "java/lang/String" "coder" "B") ∈ lw_all := lw_g (lw_at lw_m14 4 rfl) rfl
theorem q3222 : (Jvm.Cond.fieldLink "java/lang/String" (9 : Nat) "java/lang/String" "value" "[B") ∈ lw_all := lw_g (lw_at lw_m14 5 rfl) rfl
/-! java/util/ArrayList$Itr -/
set_option maxRecDepth 100000
def RJ11 : String := "java/util/ArrayList$Itr"
def TJ11 : u_T := fun k => match k with
  | 0 => ("java/util/ArrayList$Itr", "cursor", "I", false)
  | 1 => ("java/util/ArrayList$Itr", "lastRet", "I", false)
  | 2 => ("java/util/ArrayList$Itr", "expectedModCount", "I", false)
  | _ => ("java/util/ArrayList$Itr", "this$0", "Ljava/util/ArrayList;", true)
def tyJ11 : Nat → FieldType := fun k => match k with
  | 0 => .int
  | 1 => .int
  | 2 => .int
  | _ => .object "java/util/ArrayList"
abbrev wsJ110 : List Cond := u_ws RJ11 TJ11 4
theorem nmJ11 : ∀ a, a < 4 → ∀ b, b < 4 → a ≠ b → (TJ11 a).2.1 ≠ (TJ11 b).2.1 := by decide +kernel
theorem tyJ11_ok : ∀ k, k < 4 → parseFieldDescriptor (TJ11 k).2.2.1 = some (tyJ11 k) := by decide +kernel
abbrev cJ11_init : ByteArray := prog_44_method_1_code
def yJ11_init : MethodName := ⟨RJ11, "<init>", "(Ljava/util/ArrayList;)V"⟩
def dkwJ11_init_1 : List UInt8 := [181, 0, 22, 177]
abbrev dktJ11_init_1 : List UInt8 := dkwJ11_init_1 ++ []
def dkwJ11_init_0 : List UInt8 := [42, 43, 181, 0, 1, 42, 183, 0, 7, 42, 2, 181, 0, 13, 42, 42, 180, 0, 1, 180, 0, 17]
abbrev dktJ11_init_0 : List UInt8 := dkwJ11_init_0 ++ dktJ11_init_1
theorem dksJ11_init_0 : cJ11_init.data.toList.drop 0 = dktJ11_init_0 := by decide +kernel
theorem dksJ11_init_1 : cJ11_init.data.toList.drop 22 = dktJ11_init_1 := dk_seg dksJ11_init_0 22 rfl rfl
theorem dJ11_init_0 : decode cJ11_init 0 = .ok (.aload_n 0, 1) := dk_42 (dk_at dksJ11_init_0 0 rfl rfl)
theorem dJ11_init_1 : decode cJ11_init 1 = .ok (.aload_n 1, 1) := dk_43 (dk_at dksJ11_init_0 1 rfl rfl)
theorem dJ11_init_2 : decode cJ11_init 2 = .ok (.putfield 1, 3) := dk_181 0 1 (dk_at dksJ11_init_0 2 rfl rfl)
theorem dJ11_init_5 : decode cJ11_init 5 = .ok (.aload_n 0, 1) := dk_42 (dk_at dksJ11_init_0 5 rfl rfl)
theorem dJ11_init_6 : decode cJ11_init 6 = .ok (.invokespecial 7, 3) := dk_183 0 7 (dk_at dksJ11_init_0 6 rfl rfl)
theorem dJ11_init_9 : decode cJ11_init 9 = .ok (.aload_n 0, 1) := dk_42 (dk_at dksJ11_init_0 9 rfl rfl)
theorem dJ11_init_10 : decode cJ11_init 10 = .ok (.iconst (-1), 1) := dk_2 (dk_at dksJ11_init_0 10 rfl rfl)
theorem dJ11_init_11 : decode cJ11_init 11 = .ok (.putfield 13, 3) := dk_181 0 13 (dk_at dksJ11_init_0 11 rfl rfl)
theorem dJ11_init_14 : decode cJ11_init 14 = .ok (.aload_n 0, 1) := dk_42 (dk_at dksJ11_init_0 14 rfl rfl)
theorem dJ11_init_15 : decode cJ11_init 15 = .ok (.aload_n 0, 1) := dk_42 (dk_at dksJ11_init_0 15 rfl rfl)
theorem dJ11_init_16 : decode cJ11_init 16 = .ok (.getfield 1, 3) := dk_180 0 1 (dk_at dksJ11_init_0 16 rfl rfl)
theorem dJ11_init_19 : decode cJ11_init 19 = .ok (.getfield 17, 3) := dk_180 0 17 (dk_at dksJ11_init_0 19 rfl rfl)
theorem dJ11_init_22 : decode cJ11_init 22 = .ok (.putfield 22, 3) := dk_181 0 22 (dk_at dksJ11_init_1 0 rfl rfl)
theorem dJ11_init_25 : decode cJ11_init 25 = .ok (.return_, 1) := dk_177 (dk_at dksJ11_init_1 3 rfl rfl)
abbrev cJ11_hasNext : ByteArray := prog_44_method_2_code
def yJ11_hasNext : MethodName := ⟨RJ11, "hasNext", "()Z"⟩
def dkwJ11_hasNext_0 : List UInt8 := [42, 180, 0, 25, 42, 180, 0, 1, 180, 0, 28, 159, 0, 7, 4, 167, 0, 4, 3, 172]
abbrev dktJ11_hasNext_0 : List UInt8 := dkwJ11_hasNext_0 ++ []
theorem dksJ11_hasNext_0 : cJ11_hasNext.data.toList.drop 0 = dktJ11_hasNext_0 := by decide +kernel
theorem dJ11_hasNext_0 : decode cJ11_hasNext 0 = .ok (.aload_n 0, 1) := dk_42 (dk_at dksJ11_hasNext_0 0 rfl rfl)
theorem dJ11_hasNext_1 : decode cJ11_hasNext 1 = .ok (.getfield 25, 3) := dk_180 0 25 (dk_at dksJ11_hasNext_0 1 rfl rfl)
theorem dJ11_hasNext_4 : decode cJ11_hasNext 4 = .ok (.aload_n 0, 1) := dk_42 (dk_at dksJ11_hasNext_0 4 rfl rfl)
theorem dJ11_hasNext_5 : decode cJ11_hasNext 5 = .ok (.getfield 1, 3) := dk_180 0 1 (dk_at dksJ11_hasNext_0 5 rfl rfl)
theorem dJ11_hasNext_8 : decode cJ11_hasNext 8 = .ok (.getfield 28, 3) := dk_180 0 28 (dk_at dksJ11_hasNext_0 8 rfl rfl)
theorem dJ11_hasNext_11 : decode cJ11_hasNext 11 = .ok (.if_icmp .eq 7, 3) := dk_159 0 7 (dk_at dksJ11_hasNext_0 11 rfl rfl)
theorem dJ11_hasNext_14 : decode cJ11_hasNext 14 = .ok (.iconst 1, 1) := dk_4 (dk_at dksJ11_hasNext_0 14 rfl rfl)
theorem dJ11_hasNext_15 : decode cJ11_hasNext 15 = .ok (.goto 4, 3) := dk_167 0 4 (dk_at dksJ11_hasNext_0 15 rfl rfl)
theorem dJ11_hasNext_18 : decode cJ11_hasNext 18 = .ok (.iconst 0, 1) := dk_3 (dk_at dksJ11_hasNext_0 18 rfl rfl)
theorem dJ11_hasNext_19 : decode cJ11_hasNext 19 = .ok (.ireturn, 1) := dk_172 (dk_at dksJ11_hasNext_0 19 rfl rfl)
abbrev cJ11_next : ByteArray := prog_44_method_3_code
def yJ11_next : MethodName := ⟨RJ11, "next", "()Ljava/lang/Object;"⟩
def dkwJ11_next_2 : List UInt8 := [183, 0, 43, 191, 42, 27, 4, 96, 181, 0, 25, 44, 42, 27, 90, 181, 0, 13, 50, 176]
abbrev dktJ11_next_2 : List UInt8 := dkwJ11_next_2 ++ []
def dkwJ11_next_1 : List UInt8 := [183, 0, 36, 191, 42, 180, 0, 1, 180, 0, 37, 77, 27, 44, 190, 161, 0, 11, 187, 0, 41, 89]
abbrev dktJ11_next_1 : List UInt8 := dkwJ11_next_1 ++ dktJ11_next_2
def dkwJ11_next_0 : List UInt8 := [42, 182, 0, 31, 42, 180, 0, 25, 60, 27, 42, 180, 0, 1, 180, 0, 28, 161, 0, 11, 187, 0, 34, 89]
abbrev dktJ11_next_0 : List UInt8 := dkwJ11_next_0 ++ dktJ11_next_1
theorem dksJ11_next_0 : cJ11_next.data.toList.drop 0 = dktJ11_next_0 := by decide +kernel
theorem dksJ11_next_1 : cJ11_next.data.toList.drop 24 = dktJ11_next_1 := dk_seg dksJ11_next_0 24 rfl rfl
theorem dksJ11_next_2 : cJ11_next.data.toList.drop 46 = dktJ11_next_2 := dk_seg dksJ11_next_1 22 rfl rfl
theorem dJ11_next_0 : decode cJ11_next 0 = .ok (.aload_n 0, 1) := dk_42 (dk_at dksJ11_next_0 0 rfl rfl)
theorem dJ11_next_1 : decode cJ11_next 1 = .ok (.invokevirtual 31, 3) := dk_182 0 31 (dk_at dksJ11_next_0 1 rfl rfl)
theorem dJ11_next_4 : decode cJ11_next 4 = .ok (.aload_n 0, 1) := dk_42 (dk_at dksJ11_next_0 4 rfl rfl)
theorem dJ11_next_5 : decode cJ11_next 5 = .ok (.getfield 25, 3) := dk_180 0 25 (dk_at dksJ11_next_0 5 rfl rfl)
theorem dJ11_next_8 : decode cJ11_next 8 = .ok (.istore_n 1, 1) := dk_60 (dk_at dksJ11_next_0 8 rfl rfl)
theorem dJ11_next_9 : decode cJ11_next 9 = .ok (.iload_n 1, 1) := dk_27 (dk_at dksJ11_next_0 9 rfl rfl)
theorem dJ11_next_10 : decode cJ11_next 10 = .ok (.aload_n 0, 1) := dk_42 (dk_at dksJ11_next_0 10 rfl rfl)
theorem dJ11_next_11 : decode cJ11_next 11 = .ok (.getfield 1, 3) := dk_180 0 1 (dk_at dksJ11_next_0 11 rfl rfl)
theorem dJ11_next_14 : decode cJ11_next 14 = .ok (.getfield 28, 3) := dk_180 0 28 (dk_at dksJ11_next_0 14 rfl rfl)
theorem dJ11_next_17 : decode cJ11_next 17 = .ok (.if_icmp .lt 11, 3) := dk_161 0 11 (dk_at dksJ11_next_0 17 rfl rfl)
theorem dJ11_next_20 : decode cJ11_next 20 = .ok (.new 34, 3) := dk_187 0 34 (dk_at dksJ11_next_0 20 rfl rfl)
theorem dJ11_next_23 : decode cJ11_next 23 = .ok (.dup, 1) := dk_89 (dk_at dksJ11_next_0 23 rfl rfl)
theorem dJ11_next_24 : decode cJ11_next 24 = .ok (.invokespecial 36, 3) := dk_183 0 36 (dk_at dksJ11_next_1 0 rfl rfl)
theorem dJ11_next_27 : decode cJ11_next 27 = .ok (.athrow, 1) := dk_191 (dk_at dksJ11_next_1 3 rfl rfl)
theorem dJ11_next_28 : decode cJ11_next 28 = .ok (.aload_n 0, 1) := dk_42 (dk_at dksJ11_next_1 4 rfl rfl)
theorem dJ11_next_29 : decode cJ11_next 29 = .ok (.getfield 1, 3) := dk_180 0 1 (dk_at dksJ11_next_1 5 rfl rfl)
theorem dJ11_next_32 : decode cJ11_next 32 = .ok (.getfield 37, 3) := dk_180 0 37 (dk_at dksJ11_next_1 8 rfl rfl)
theorem dJ11_next_35 : decode cJ11_next 35 = .ok (.astore_n 2, 1) := dk_77 (dk_at dksJ11_next_1 11 rfl rfl)
theorem dJ11_next_36 : decode cJ11_next 36 = .ok (.iload_n 1, 1) := dk_27 (dk_at dksJ11_next_1 12 rfl rfl)
theorem dJ11_next_37 : decode cJ11_next 37 = .ok (.aload_n 2, 1) := dk_44 (dk_at dksJ11_next_1 13 rfl rfl)
theorem dJ11_next_38 : decode cJ11_next 38 = .ok (.arraylength, 1) := dk_190 (dk_at dksJ11_next_1 14 rfl rfl)
theorem dJ11_next_39 : decode cJ11_next 39 = .ok (.if_icmp .lt 11, 3) := dk_161 0 11 (dk_at dksJ11_next_1 15 rfl rfl)
theorem dJ11_next_42 : decode cJ11_next 42 = .ok (.new 41, 3) := dk_187 0 41 (dk_at dksJ11_next_1 18 rfl rfl)
theorem dJ11_next_45 : decode cJ11_next 45 = .ok (.dup, 1) := dk_89 (dk_at dksJ11_next_1 21 rfl rfl)
theorem dJ11_next_46 : decode cJ11_next 46 = .ok (.invokespecial 43, 3) := dk_183 0 43 (dk_at dksJ11_next_2 0 rfl rfl)
theorem dJ11_next_49 : decode cJ11_next 49 = .ok (.athrow, 1) := dk_191 (dk_at dksJ11_next_2 3 rfl rfl)
theorem dJ11_next_50 : decode cJ11_next 50 = .ok (.aload_n 0, 1) := dk_42 (dk_at dksJ11_next_2 4 rfl rfl)
theorem dJ11_next_51 : decode cJ11_next 51 = .ok (.iload_n 1, 1) := dk_27 (dk_at dksJ11_next_2 5 rfl rfl)
theorem dJ11_next_52 : decode cJ11_next 52 = .ok (.iconst 1, 1) := dk_4 (dk_at dksJ11_next_2 6 rfl rfl)
theorem dJ11_next_53 : decode cJ11_next 53 = .ok (.iadd, 1) := dk_96 (dk_at dksJ11_next_2 7 rfl rfl)
theorem dJ11_next_54 : decode cJ11_next 54 = .ok (.putfield 25, 3) := dk_181 0 25 (dk_at dksJ11_next_2 8 rfl rfl)
theorem dJ11_next_57 : decode cJ11_next 57 = .ok (.aload_n 2, 1) := dk_44 (dk_at dksJ11_next_2 11 rfl rfl)
theorem dJ11_next_58 : decode cJ11_next 58 = .ok (.aload_n 0, 1) := dk_42 (dk_at dksJ11_next_2 12 rfl rfl)
theorem dJ11_next_59 : decode cJ11_next 59 = .ok (.iload_n 1, 1) := dk_27 (dk_at dksJ11_next_2 13 rfl rfl)
theorem dJ11_next_60 : decode cJ11_next 60 = .ok (.dup_x1, 1) := dk_90 (dk_at dksJ11_next_2 14 rfl rfl)
theorem dJ11_next_61 : decode cJ11_next 61 = .ok (.putfield 13, 3) := dk_181 0 13 (dk_at dksJ11_next_2 15 rfl rfl)
theorem dJ11_next_64 : decode cJ11_next 64 = .ok (.aaload, 1) := dk_50 (dk_at dksJ11_next_2 18 rfl rfl)
theorem dJ11_next_65 : decode cJ11_next 65 = .ok (.areturn, 1) := dk_176 (dk_at dksJ11_next_2 19 rfl rfl)
abbrev cJ11_checkForComodification : ByteArray := prog_44_method_6_code
def yJ11_checkForComodification : MethodName := ⟨RJ11, "checkForComodification", "()V"⟩
def dkwJ11_checkForComodification_0 : List UInt8 := [42, 180, 0, 1, 180, 0, 17, 42, 180, 0, 22, 159, 0, 11, 187, 0, 41, 89, 183, 0, 43, 191, 177]
abbrev dktJ11_checkForComodification_0 : List UInt8 := dkwJ11_checkForComodification_0 ++ []
theorem dksJ11_checkForComodification_0 : cJ11_checkForComodification.data.toList.drop 0 = dktJ11_checkForComodification_0 := by decide +kernel
theorem dJ11_checkForComodification_0 : decode cJ11_checkForComodification 0 = .ok (.aload_n 0, 1) := dk_42 (dk_at dksJ11_checkForComodification_0 0 rfl rfl)
theorem dJ11_checkForComodification_1 : decode cJ11_checkForComodification 1 = .ok (.getfield 1, 3) := dk_180 0 1 (dk_at dksJ11_checkForComodification_0 1 rfl rfl)
theorem dJ11_checkForComodification_4 : decode cJ11_checkForComodification 4 = .ok (.getfield 17, 3) := dk_180 0 17 (dk_at dksJ11_checkForComodification_0 4 rfl rfl)
theorem dJ11_checkForComodification_7 : decode cJ11_checkForComodification 7 = .ok (.aload_n 0, 1) := dk_42 (dk_at dksJ11_checkForComodification_0 7 rfl rfl)
theorem dJ11_checkForComodification_8 : decode cJ11_checkForComodification 8 = .ok (.getfield 22, 3) := dk_180 0 22 (dk_at dksJ11_checkForComodification_0 8 rfl rfl)
theorem dJ11_checkForComodification_11 : decode cJ11_checkForComodification 11 = .ok (.if_icmp .eq 11, 3) := dk_159 0 11 (dk_at dksJ11_checkForComodification_0 11 rfl rfl)
theorem dJ11_checkForComodification_14 : decode cJ11_checkForComodification 14 = .ok (.new 41, 3) := dk_187 0 41 (dk_at dksJ11_checkForComodification_0 14 rfl rfl)
theorem dJ11_checkForComodification_17 : decode cJ11_checkForComodification 17 = .ok (.dup, 1) := dk_89 (dk_at dksJ11_checkForComodification_0 17 rfl rfl)
theorem dJ11_checkForComodification_18 : decode cJ11_checkForComodification 18 = .ok (.invokespecial 43, 3) := dk_183 0 43 (dk_at dksJ11_checkForComodification_0 18 rfl rfl)
theorem dJ11_checkForComodification_21 : decode cJ11_checkForComodification 21 = .ok (.athrow, 1) := dk_191 (dk_at dksJ11_checkForComodification_0 21 rfl rfl)
theorem dJ11_checkForComodification_22 : decode cJ11_checkForComodification 22 = .ok (.return_, 1) := dk_177 (dk_at dksJ11_checkForComodification_0 22 rfl rfl)
theorem q114 : (Jvm.Cond.initialized "java/util/ArrayList$Itr") ∈ lw_all := lw_g (lw_at lw_m1 17 rfl) rfl
theorem q192 : (Jvm.Cond.fieldLink "java/util/ArrayList$Itr" (37 : Nat) "java/util/ArrayList" "elementData" "[Ljava/lang/Object;") ∈ lw_all := lw_g (lw_at lw_m1 95 rfl) rfl
theorem q193 : (Jvm.Cond.fieldLinkNest "java/util/ArrayList$Itr" (28 : Nat) "java/util/ArrayList" "size" "I" "java/util/ArrayList") ∈ lw_tbl := lw_at lw_m1 96 rfl
theorem q196 : (Jvm.Cond.fieldLink "java/util/ArrayList$Itr" (17 : Nat) "java/util/ArrayList" "modCount" "I") ∈ lw_all := lw_g (lw_at lw_m1 99 rfl) rfl
theorem q447 : (Jvm.Cond.instantiable "java/util/ArrayList$Itr" (4 : Nat)) ∈ lw_all := lw_g (lw_at lw_m2 110 rfl) rfl
theorem q449 : (Jvm.Cond.instanceMethod ({ cls := "java/util/ArrayList$Itr", name := "<init>", desc := "(Ljava/util/ArrayList;)V" } : Jvm.MethodName)) ∈ lw_all := lw_g (lw_at lw_m2 112 rfl) rfl
theorem q450 : (Jvm.Cond.code ({ cls := "java/util/ArrayList$Itr", name := "<init>", desc := "(Ljava/util/ArrayList;)V" } : Jvm.MethodName) prog_44_method_1_code (2 : Nat) (Option.none : Option Jvm.ClassFile.FieldType)) ∈ lw_all := lw_g (lw_at lw_m2 113 rfl) rfl
theorem q451 : (Jvm.Cond.methodLink "java/util/ArrayList$Itr" (7 : Nat) ({ cls := "java/lang/Object", name := "<init>", desc := "()V" } : Jvm.MethodName)) ∈ lw_all := lw_g (lw_at lw_m2 114 rfl) rfl
theorem q452 : (Jvm.Cond.fieldLink "java/util/ArrayList$Itr" (25 : Nat) "java/util/ArrayList$Itr" "cursor" "I") ∈ lw_all := lw_g (lw_at lw_m2 115 rfl) rfl
theorem q453 : (Jvm.Cond.fieldLink "java/util/ArrayList$Itr" (13 : Nat) "java/util/ArrayList$Itr" "lastRet" "I") ∈ lw_all := lw_g (lw_at lw_m2 116 rfl) rfl
theorem q454 : (Jvm.Cond.fieldLink "java/util/ArrayList$Itr" (22 : Nat) "java/util/ArrayList$Itr" "expectedModCount" "I") ∈ lw_all := lw_g (lw_at lw_m2 117 rfl) rfl
theorem q455 : (Jvm.Cond.fieldLink "java/util/ArrayList$Itr" (1 : Nat) "java/util/ArrayList$Itr" "this$0" "Ljava/util/ArrayList;") ∈ lw_all := lw_g (lw_at lw_m2 118 rfl) rfl
theorem q456 : (Jvm.Cond.lays "java/util/ArrayList$Itr" "java/util/ArrayList$Itr" "cursor" "I") ∈ lw_all := lw_g (lw_at lw_m2 119 rfl) rfl
theorem q457 : (Jvm.Cond.soleField "java/util/ArrayList$Itr" "cursor") ∈ lw_all := lw_g (lw_at lw_m2 120 rfl) rfl
theorem q458 : (Jvm.Cond.lays "java/util/ArrayList$Itr" "java/util/ArrayList$Itr" "lastRet" "I") ∈ lw_all := lw_g (lw_at lw_m2 121 rfl) rfl
theorem q459 : (Jvm.Cond.soleField "java/util/ArrayList$Itr" "lastRet") ∈ lw_all := lw_g (lw_at lw_m2 122 rfl) rfl
theorem q460 : (Jvm.Cond.lays "java/util/ArrayList$Itr" "java/util/ArrayList$Itr" "expectedModCount" "I") ∈ lw_all := lw_g (lw_at lw_m2 123 rfl) rfl
theorem q461 : (Jvm.Cond.soleField "java/util/ArrayList$Itr" "expectedModCount") ∈ lw_all := lw_g (lw_at lw_m2 124 rfl) rfl
theorem q462 : (Jvm.Cond.laysFinal "java/util/ArrayList$Itr" "java/util/ArrayList$Itr" "this$0" "Ljava/util/ArrayList;") ∈ lw_all := lw_g (lw_at lw_m2 125 rfl) rfl
theorem q463 : (Jvm.Cond.soleField "java/util/ArrayList$Itr" "this$0") ∈ lw_all := lw_g (lw_at lw_m2 126 rfl) rfl
theorem q464 : (Jvm.Cond.superclass "java/util/ArrayList$Itr" "java/lang/Object") ∈ lw_all := lw_g (lw_at lw_m2 127 rfl) rfl
theorem q475 : (Jvm.Cond.castable "java/util/ArrayList$Itr" "java/util/Iterator") ∈ lw_tbl := lw_at lw_m2 138 rfl
theorem q476 : (Jvm.Cond.selects "java/util/ArrayList$Itr" ({ cls := "java/util/Iterator", name := "hasNext", desc := "()Z" } : Jvm.MethodName) ({ cls := "java/util/ArrayList$Itr", name := "hasNext", desc := "()Z" } : Jvm.MethodName)) ∈ lw_all := lw_g (lw_at lw_m2 139 rfl) rfl
theorem q477 : (Jvm.Cond.unhidden "java/util/ArrayList$Itr" "hasNext" "()Z") ∈ lw_tbl := lw_at lw_m2 140 rfl
theorem q478 : (Jvm.Cond.instanceMethod ({ cls := "java/util/ArrayList$Itr", name := "hasNext", desc := "()Z" } : Jvm.MethodName)) ∈ lw_all := lw_g (lw_at lw_m2 141 rfl) rfl
theorem q479 : (Jvm.Cond.publicMethod ({ cls := "java/util/ArrayList$Itr", name := "hasNext", desc := "()Z" } : Jvm.MethodName)) ∈ lw_tbl := lw_at lw_m2 142 rfl
theorem q480 : (Jvm.Cond.code ({ cls := "java/util/ArrayList$Itr", name := "hasNext", desc := "()Z" } : Jvm.MethodName) prog_44_method_2_code (1 : Nat) (Option.some Jvm.ClassFile.FieldType.boolean)) ∈ lw_all := lw_g (lw_at lw_m2 143 rfl) rfl
theorem q524 : (Jvm.Cond.selects "java/util/ArrayList$Itr" ({ cls := "java/util/Iterator", name := "next", desc := "()Ljava/lang/Object;" } : Jvm.MethodName) ({ cls := "java/util/ArrayList$Itr", name := "next", desc := "()Ljava/lang/Object;" } : Jvm.MethodName)) ∈ lw_all := lw_g (lw_at lw_m2 187 rfl) rfl
theorem q525 : (Jvm.Cond.unhidden "java/util/ArrayList$Itr" "next" "()Ljava/lang/Object;") ∈ lw_tbl := lw_at lw_m2 188 rfl
theorem q526 : (Jvm.Cond.instanceMethod ({ cls := "java/util/ArrayList$Itr", name := "next", desc := "()Ljava/lang/Object;" } : Jvm.MethodName)) ∈ lw_all := lw_g (lw_at lw_m2 189 rfl) rfl
theorem q527 : (Jvm.Cond.publicMethod ({ cls := "java/util/ArrayList$Itr", name := "next", desc := "()Ljava/lang/Object;" } : Jvm.MethodName)) ∈ lw_tbl := lw_at lw_m2 190 rfl
theorem q528 : (Jvm.Cond.code ({ cls := "java/util/ArrayList$Itr", name := "next", desc := "()Ljava/lang/Object;" } : Jvm.MethodName) prog_44_method_3_code (3 : Nat) (Option.some (Jvm.ClassFile.FieldType.object "java/lang/Object"))) ∈ lw_all := lw_g (lw_at lw_m2 191 rfl) rfl
theorem q529 : (Jvm.Cond.methodLink "java/util/ArrayList$Itr" (31 : Nat) ({ cls := "java/util/ArrayList$Itr", name := "checkForComodification", desc := "()V" } : Jvm.MethodName)) ∈ lw_all := lw_g (lw_at lw_m2 192 rfl) rfl
theorem q530 : (Jvm.Cond.instanceMethod ({ cls := "java/util/ArrayList$Itr", name := "checkForComodification", desc := "()V" } : Jvm.MethodName)) ∈ lw_all := lw_g (lw_at lw_m2 193 rfl) rfl
theorem q531 : (Jvm.Cond.selects "java/util/ArrayList$Itr" ({ cls := "java/util/ArrayList$Itr", name := "checkForComodification", desc := "()V" } : Jvm.MethodName) ({ cls := "java/util/ArrayList$Itr", name := "checkForComodification", desc := "()V" } : Jvm.MethodName)) ∈ lw_all := lw_g (lw_at lw_m2 194 rfl) rfl
theorem q532 : (Jvm.Cond.code ({ cls := "java/util/ArrayList$Itr", name := "checkForComodification", desc := "()V" } : Jvm.MethodName) prog_44_method_6_code (1 : Nat) (Option.none : Option Jvm.ClassFile.FieldType)) ∈ lw_all := lw_g (lw_at lw_m2 195 rfl) rfl
theorem q1120 : (Jvm.Cond.selects "java/util/ArrayList$Itr" ({ cls := "java/lang/Object", name := "getClass", desc := "()Ljava/lang/Class;" } : Jvm.MethodName) ({ cls := "java/lang/Object", name := "getClass", desc := "()Ljava/lang/Class;" } : Jvm.MethodName)) ∈ lw_all := lw_g (lw_at lw_m5 63 rfl) rfl
theorem q3181 : (Jvm.Cond.castable "java/util/ArrayList$Itr" "java/lang/Object") ∈ lw_tbl := lw_at lw_m13 204 rfl
theorem in_J11 : ∀ w ∈ wsJ110, w ∈ lw_all := lw_in wsJ110 [456, 458, 460, 462] (by decide +kernel) (by decide +kernel)
/-! java/util/TreeMap -/
set_option maxRecDepth 100000
def RJ12 : String := "java/util/TreeMap"
def TJ12 : u_T := fun k => match k with
  | 0 => ("java/util/AbstractMap", "keySet", "Ljava/util/Set;", false)
  | 1 => ("java/util/AbstractMap", "values", "Ljava/util/Collection;", false)
  | 2 => ("java/util/TreeMap", "comparator", "Ljava/util/Comparator;", true)
  | 3 => ("java/util/TreeMap", "root", "Ljava/util/TreeMap$Entry;", false)
  | 4 => ("java/util/TreeMap", "size", "I", false)
  | 5 => ("java/util/TreeMap", "modCount", "I", false)
  | 6 => ("java/util/TreeMap", "entrySet", "Ljava/util/TreeMap$EntrySet;", false)
  | 7 => ("java/util/TreeMap", "navigableKeySet", "Ljava/util/TreeMap$KeySet;", false)
  | _ => ("java/util/TreeMap", "descendingMap", "Ljava/util/NavigableMap;", false)
def tyJ12 : Nat → FieldType := fun k => match k with
  | 0 => .object "java/util/Set"
  | 1 => .object "java/util/Collection"
  | 2 => .object "java/util/Comparator"
  | 3 => .object "java/util/TreeMap$Entry"
  | 4 => .int
  | 5 => .int
  | 6 => .object "java/util/TreeMap$EntrySet"
  | 7 => .object "java/util/TreeMap$KeySet"
  | _ => .object "java/util/NavigableMap"
abbrev wsJ120 : List Cond := u_ws RJ12 TJ12 9
theorem nmJ12 : ∀ a, a < 9 → ∀ b, b < 9 → a ≠ b → (TJ12 a).2.1 ≠ (TJ12 b).2.1 := by decide +kernel
theorem tyJ12_ok : ∀ k, k < 9 → parseFieldDescriptor (TJ12 k).2.2.1 = some (tyJ12 k) := by decide +kernel
abbrev cJ12_successor : ByteArray := prog_77_method_74_code
def yJ12_successor : MethodName := ⟨RJ12, "successor", "(Ljava/util/TreeMap$Entry;)Ljava/util/TreeMap$Entry;"⟩
def dkwJ12_successor_2 : List UInt8 := [44, 43, 180, 0, 114, 166, 0, 13, 43, 77, 43, 180, 0, 124, 76, 167, 255, 237, 43, 176]
abbrev dktJ12_successor_2 : List UInt8 := dkwJ12_successor_2 ++ []
def dkwJ12_successor_1 : List UInt8 := [198, 0, 11, 43, 180, 0, 111, 76, 167, 255, 244, 43, 176, 42, 180, 0, 124, 76, 42, 77, 43, 198, 0, 21]
abbrev dktJ12_successor_1 : List UInt8 := dkwJ12_successor_1 ++ dktJ12_successor_2
def dkwJ12_successor_0 : List UInt8 := [42, 199, 0, 5, 1, 176, 42, 180, 0, 114, 198, 0, 25, 42, 180, 0, 114, 76, 43, 180, 0, 111]
abbrev dktJ12_successor_0 : List UInt8 := dkwJ12_successor_0 ++ dktJ12_successor_1
theorem dksJ12_successor_0 : cJ12_successor.data.toList.drop 0 = dktJ12_successor_0 := by decide +kernel
theorem dksJ12_successor_1 : cJ12_successor.data.toList.drop 22 = dktJ12_successor_1 := dk_seg dksJ12_successor_0 22 rfl rfl
theorem dksJ12_successor_2 : cJ12_successor.data.toList.drop 46 = dktJ12_successor_2 := dk_seg dksJ12_successor_1 24 rfl rfl
theorem dJ12_successor_0 : decode cJ12_successor 0 = .ok (.aload_n 0, 1) := dk_42 (dk_at dksJ12_successor_0 0 rfl rfl)
theorem dJ12_successor_1 : decode cJ12_successor 1 = .ok (.ifnonnull 5, 3) := dk_199 0 5 (dk_at dksJ12_successor_0 1 rfl rfl)
theorem dJ12_successor_4 : decode cJ12_successor 4 = .ok (.aconst_null, 1) := dk_1 (dk_at dksJ12_successor_0 4 rfl rfl)
theorem dJ12_successor_5 : decode cJ12_successor 5 = .ok (.areturn, 1) := dk_176 (dk_at dksJ12_successor_0 5 rfl rfl)
theorem dJ12_successor_6 : decode cJ12_successor 6 = .ok (.aload_n 0, 1) := dk_42 (dk_at dksJ12_successor_0 6 rfl rfl)
theorem dJ12_successor_7 : decode cJ12_successor 7 = .ok (.getfield 114, 3) := dk_180 0 114 (dk_at dksJ12_successor_0 7 rfl rfl)
theorem dJ12_successor_10 : decode cJ12_successor 10 = .ok (.ifnull 25, 3) := dk_198 0 25 (dk_at dksJ12_successor_0 10 rfl rfl)
theorem dJ12_successor_13 : decode cJ12_successor 13 = .ok (.aload_n 0, 1) := dk_42 (dk_at dksJ12_successor_0 13 rfl rfl)
theorem dJ12_successor_14 : decode cJ12_successor 14 = .ok (.getfield 114, 3) := dk_180 0 114 (dk_at dksJ12_successor_0 14 rfl rfl)
theorem dJ12_successor_17 : decode cJ12_successor 17 = .ok (.astore_n 1, 1) := dk_76 (dk_at dksJ12_successor_0 17 rfl rfl)
theorem dJ12_successor_18 : decode cJ12_successor 18 = .ok (.aload_n 1, 1) := dk_43 (dk_at dksJ12_successor_0 18 rfl rfl)
theorem dJ12_successor_19 : decode cJ12_successor 19 = .ok (.getfield 111, 3) := dk_180 0 111 (dk_at dksJ12_successor_0 19 rfl rfl)
theorem dJ12_successor_22 : decode cJ12_successor 22 = .ok (.ifnull 11, 3) := dk_198 0 11 (dk_at dksJ12_successor_1 0 rfl rfl)
theorem dJ12_successor_25 : decode cJ12_successor 25 = .ok (.aload_n 1, 1) := dk_43 (dk_at dksJ12_successor_1 3 rfl rfl)
theorem dJ12_successor_26 : decode cJ12_successor 26 = .ok (.getfield 111, 3) := dk_180 0 111 (dk_at dksJ12_successor_1 4 rfl rfl)
theorem dJ12_successor_29 : decode cJ12_successor 29 = .ok (.astore_n 1, 1) := dk_76 (dk_at dksJ12_successor_1 7 rfl rfl)
theorem dJ12_successor_30 : decode cJ12_successor 30 = .ok (.goto (-12), 3) := dk_167 255 244 (dk_at dksJ12_successor_1 8 rfl rfl)
theorem dJ12_successor_33 : decode cJ12_successor 33 = .ok (.aload_n 1, 1) := dk_43 (dk_at dksJ12_successor_1 11 rfl rfl)
theorem dJ12_successor_34 : decode cJ12_successor 34 = .ok (.areturn, 1) := dk_176 (dk_at dksJ12_successor_1 12 rfl rfl)
theorem dJ12_successor_35 : decode cJ12_successor 35 = .ok (.aload_n 0, 1) := dk_42 (dk_at dksJ12_successor_1 13 rfl rfl)
theorem dJ12_successor_36 : decode cJ12_successor 36 = .ok (.getfield 124, 3) := dk_180 0 124 (dk_at dksJ12_successor_1 14 rfl rfl)
theorem dJ12_successor_39 : decode cJ12_successor 39 = .ok (.astore_n 1, 1) := dk_76 (dk_at dksJ12_successor_1 17 rfl rfl)
theorem dJ12_successor_40 : decode cJ12_successor 40 = .ok (.aload_n 0, 1) := dk_42 (dk_at dksJ12_successor_1 18 rfl rfl)
theorem dJ12_successor_41 : decode cJ12_successor 41 = .ok (.astore_n 2, 1) := dk_77 (dk_at dksJ12_successor_1 19 rfl rfl)
theorem dJ12_successor_42 : decode cJ12_successor 42 = .ok (.aload_n 1, 1) := dk_43 (dk_at dksJ12_successor_1 20 rfl rfl)
theorem dJ12_successor_43 : decode cJ12_successor 43 = .ok (.ifnull 21, 3) := dk_198 0 21 (dk_at dksJ12_successor_1 21 rfl rfl)
theorem dJ12_successor_46 : decode cJ12_successor 46 = .ok (.aload_n 2, 1) := dk_44 (dk_at dksJ12_successor_2 0 rfl rfl)
theorem dJ12_successor_47 : decode cJ12_successor 47 = .ok (.aload_n 1, 1) := dk_43 (dk_at dksJ12_successor_2 1 rfl rfl)
theorem dJ12_successor_48 : decode cJ12_successor 48 = .ok (.getfield 114, 3) := dk_180 0 114 (dk_at dksJ12_successor_2 2 rfl rfl)
theorem dJ12_successor_51 : decode cJ12_successor 51 = .ok (.if_acmp .ne 13, 3) := dk_166 0 13 (dk_at dksJ12_successor_2 5 rfl rfl)
theorem dJ12_successor_54 : decode cJ12_successor 54 = .ok (.aload_n 1, 1) := dk_43 (dk_at dksJ12_successor_2 8 rfl rfl)
theorem dJ12_successor_55 : decode cJ12_successor 55 = .ok (.astore_n 2, 1) := dk_77 (dk_at dksJ12_successor_2 9 rfl rfl)
theorem dJ12_successor_56 : decode cJ12_successor 56 = .ok (.aload_n 1, 1) := dk_43 (dk_at dksJ12_successor_2 10 rfl rfl)
theorem dJ12_successor_57 : decode cJ12_successor 57 = .ok (.getfield 124, 3) := dk_180 0 124 (dk_at dksJ12_successor_2 11 rfl rfl)
theorem dJ12_successor_60 : decode cJ12_successor 60 = .ok (.astore_n 1, 1) := dk_76 (dk_at dksJ12_successor_2 14 rfl rfl)
theorem dJ12_successor_61 : decode cJ12_successor 61 = .ok (.goto (-19), 3) := dk_167 255 237 (dk_at dksJ12_successor_2 15 rfl rfl)
theorem dJ12_successor_64 : decode cJ12_successor 64 = .ok (.aload_n 1, 1) := dk_43 (dk_at dksJ12_successor_2 18 rfl rfl)
theorem dJ12_successor_65 : decode cJ12_successor 65 = .ok (.areturn, 1) := dk_176 (dk_at dksJ12_successor_2 19 rfl rfl)
abbrev cJ12_getFirstEntry : ByteArray := prog_77_method_72_code
def yJ12_getFirstEntry : MethodName := ⟨RJ12, "getFirstEntry", "()Ljava/util/TreeMap$Entry;"⟩
def dkwJ12_getFirstEntry_1 : List UInt8 := [43, 176]
abbrev dktJ12_getFirstEntry_1 : List UInt8 := dkwJ12_getFirstEntry_1 ++ []
def dkwJ12_getFirstEntry_0 : List UInt8 := [42, 180, 0, 101, 76, 43, 198, 0, 18, 43, 180, 0, 111, 198, 0, 11, 43, 180, 0, 111, 76, 167, 255, 244]
abbrev dktJ12_getFirstEntry_0 : List UInt8 := dkwJ12_getFirstEntry_0 ++ dktJ12_getFirstEntry_1
theorem dksJ12_getFirstEntry_0 : cJ12_getFirstEntry.data.toList.drop 0 = dktJ12_getFirstEntry_0 := by decide +kernel
theorem dksJ12_getFirstEntry_1 : cJ12_getFirstEntry.data.toList.drop 24 = dktJ12_getFirstEntry_1 := dk_seg dksJ12_getFirstEntry_0 24 rfl rfl
theorem dJ12_getFirstEntry_0 : decode cJ12_getFirstEntry 0 = .ok (.aload_n 0, 1) := dk_42 (dk_at dksJ12_getFirstEntry_0 0 rfl rfl)
theorem dJ12_getFirstEntry_1 : decode cJ12_getFirstEntry 1 = .ok (.getfield 101, 3) := dk_180 0 101 (dk_at dksJ12_getFirstEntry_0 1 rfl rfl)
theorem dJ12_getFirstEntry_4 : decode cJ12_getFirstEntry 4 = .ok (.astore_n 1, 1) := dk_76 (dk_at dksJ12_getFirstEntry_0 4 rfl rfl)
theorem dJ12_getFirstEntry_5 : decode cJ12_getFirstEntry 5 = .ok (.aload_n 1, 1) := dk_43 (dk_at dksJ12_getFirstEntry_0 5 rfl rfl)
theorem dJ12_getFirstEntry_6 : decode cJ12_getFirstEntry 6 = .ok (.ifnull 18, 3) := dk_198 0 18 (dk_at dksJ12_getFirstEntry_0 6 rfl rfl)
theorem dJ12_getFirstEntry_9 : decode cJ12_getFirstEntry 9 = .ok (.aload_n 1, 1) := dk_43 (dk_at dksJ12_getFirstEntry_0 9 rfl rfl)
theorem dJ12_getFirstEntry_10 : decode cJ12_getFirstEntry 10 = .ok (.getfield 111, 3) := dk_180 0 111 (dk_at dksJ12_getFirstEntry_0 10 rfl rfl)
theorem dJ12_getFirstEntry_13 : decode cJ12_getFirstEntry 13 = .ok (.ifnull 11, 3) := dk_198 0 11 (dk_at dksJ12_getFirstEntry_0 13 rfl rfl)
theorem dJ12_getFirstEntry_16 : decode cJ12_getFirstEntry 16 = .ok (.aload_n 1, 1) := dk_43 (dk_at dksJ12_getFirstEntry_0 16 rfl rfl)
theorem dJ12_getFirstEntry_17 : decode cJ12_getFirstEntry 17 = .ok (.getfield 111, 3) := dk_180 0 111 (dk_at dksJ12_getFirstEntry_0 17 rfl rfl)
theorem dJ12_getFirstEntry_20 : decode cJ12_getFirstEntry 20 = .ok (.astore_n 1, 1) := dk_76 (dk_at dksJ12_getFirstEntry_0 20 rfl rfl)
theorem dJ12_getFirstEntry_21 : decode cJ12_getFirstEntry 21 = .ok (.goto (-12), 3) := dk_167 255 244 (dk_at dksJ12_getFirstEntry_0 21 rfl rfl)
theorem dJ12_getFirstEntry_24 : decode cJ12_getFirstEntry 24 = .ok (.aload_n 1, 1) := dk_43 (dk_at dksJ12_getFirstEntry_1 0 rfl rfl)
theorem dJ12_getFirstEntry_25 : decode cJ12_getFirstEntry 25 = .ok (.areturn, 1) := dk_176 (dk_at dksJ12_getFirstEntry_1 1 rfl rfl)
abbrev cJ12_init : ByteArray := prog_77_method_1_code
def yJ12_init : MethodName := ⟨RJ12, "<init>", "()V"⟩
def dkwJ12_init_0 : List UInt8 := [42, 183, 0, 1, 42, 3, 181, 0, 7, 42, 3, 181, 0, 13, 42, 1, 181, 0, 16, 177]
abbrev dktJ12_init_0 : List UInt8 := dkwJ12_init_0 ++ []
theorem dksJ12_init_0 : cJ12_init.data.toList.drop 0 = dktJ12_init_0 := by decide +kernel
theorem dJ12_init_0 : decode cJ12_init 0 = .ok (.aload_n 0, 1) := dk_42 (dk_at dksJ12_init_0 0 rfl rfl)
theorem dJ12_init_1 : decode cJ12_init 1 = .ok (.invokespecial 1, 3) := dk_183 0 1 (dk_at dksJ12_init_0 1 rfl rfl)
theorem dJ12_init_4 : decode cJ12_init 4 = .ok (.aload_n 0, 1) := dk_42 (dk_at dksJ12_init_0 4 rfl rfl)
theorem dJ12_init_5 : decode cJ12_init 5 = .ok (.iconst 0, 1) := dk_3 (dk_at dksJ12_init_0 5 rfl rfl)
theorem dJ12_init_6 : decode cJ12_init 6 = .ok (.putfield 7, 3) := dk_181 0 7 (dk_at dksJ12_init_0 6 rfl rfl)
theorem dJ12_init_9 : decode cJ12_init 9 = .ok (.aload_n 0, 1) := dk_42 (dk_at dksJ12_init_0 9 rfl rfl)
theorem dJ12_init_10 : decode cJ12_init 10 = .ok (.iconst 0, 1) := dk_3 (dk_at dksJ12_init_0 10 rfl rfl)
theorem dJ12_init_11 : decode cJ12_init 11 = .ok (.putfield 13, 3) := dk_181 0 13 (dk_at dksJ12_init_0 11 rfl rfl)
theorem dJ12_init_14 : decode cJ12_init 14 = .ok (.aload_n 0, 1) := dk_42 (dk_at dksJ12_init_0 14 rfl rfl)
theorem dJ12_init_15 : decode cJ12_init 15 = .ok (.aconst_null, 1) := dk_1 (dk_at dksJ12_init_0 15 rfl rfl)
theorem dJ12_init_16 : decode cJ12_init 16 = .ok (.putfield 16, 3) := dk_181 0 16 (dk_at dksJ12_init_0 16 rfl rfl)
theorem dJ12_init_19 : decode cJ12_init 19 = .ok (.return_, 1) := dk_177 (dk_at dksJ12_init_0 19 rfl rfl)
abbrev cJ12_put : ByteArray := prog_77_method_21_code
def yJ12_put : MethodName := ⟨RJ12, "put", "(Ljava/lang/Object;Ljava/lang/Object;)Ljava/lang/Object;"⟩
def dkwJ12_put_0 : List UInt8 := [42, 43, 44, 4, 182, 0, 127, 176]
abbrev dktJ12_put_0 : List UInt8 := dkwJ12_put_0 ++ []
theorem dksJ12_put_0 : cJ12_put.data.toList.drop 0 = dktJ12_put_0 := by decide +kernel
theorem dJ12_put_0 : decode cJ12_put 0 = .ok (.aload_n 0, 1) := dk_42 (dk_at dksJ12_put_0 0 rfl rfl)
theorem dJ12_put_1 : decode cJ12_put 1 = .ok (.aload_n 1, 1) := dk_43 (dk_at dksJ12_put_0 1 rfl rfl)
theorem dJ12_put_2 : decode cJ12_put 2 = .ok (.aload_n 2, 1) := dk_44 (dk_at dksJ12_put_0 2 rfl rfl)
theorem dJ12_put_3 : decode cJ12_put 3 = .ok (.iconst 1, 1) := dk_4 (dk_at dksJ12_put_0 3 rfl rfl)
theorem dJ12_put_4 : decode cJ12_put 4 = .ok (.invokevirtual 127, 3) := dk_182 0 127 (dk_at dksJ12_put_0 4 rfl rfl)
theorem dJ12_put_7 : decode cJ12_put 7 = .ok (.areturn, 1) := dk_176 (dk_at dksJ12_put_0 7 rfl rfl)
abbrev cJ12_put_2 : ByteArray := prog_77_method_31_code
def yJ12_put_2 : MethodName := ⟨RJ12, "put", "(Ljava/lang/Object;Ljava/lang/Object;Z)Ljava/lang/Object;"⟩
def dkwJ12_put_2_9 : List UInt8 := [4, 167, 0, 4, 3, 182, 0, 139, 1, 176]
abbrev dktJ12_put_2_9 : List UInt8 := dkwJ12_put_2_9 ++ []
def dkwJ12_put_2_8 : List UInt8 := [25, 4, 44, 181, 0, 58, 25, 9, 176, 25, 4, 199, 255, 181, 42, 43, 44, 25, 6, 21, 5, 156, 0, 7]
abbrev dktJ12_put_2_8 : List UInt8 := dkwJ12_put_2_8 ++ dktJ12_put_2_9
def dkwJ12_put_2_7 : List UInt8 := [180, 0, 114, 58, 4, 167, 0, 28, 25, 4, 180, 0, 58, 58, 9, 29, 154, 0, 8, 25, 9, 199, 0, 9]
abbrev dktJ12_put_2_7 : List UInt8 := dkwJ12_put_2_7 ++ dktJ12_put_2_8
def dkwJ12_put_2_6 : List UInt8 := [21, 5, 156, 0, 13, 25, 4, 180, 0, 111, 58, 4, 167, 0, 43, 21, 5, 158, 0, 13, 25, 4]
abbrev dktJ12_put_2_6 : List UInt8 := dkwJ12_put_2_6 ++ dktJ12_put_2_7
def dkwJ12_put_2_5 : List UInt8 := [192, 0, 99, 58, 8, 25, 4, 58, 6, 25, 8, 25, 4, 180, 0, 105, 185, 0, 107, 2, 0, 54, 5]
abbrev dktJ12_put_2_5 : List UInt8 := dkwJ12_put_2_5 ++ dktJ12_put_2_6
def dkwJ12_put_2_4 : List UInt8 := [25, 4, 44, 181, 0, 58, 25, 8, 176, 25, 4, 199, 255, 180, 167, 0, 92, 43, 184, 0, 95, 87, 43]
abbrev dktJ12_put_2_4 : List UInt8 := dkwJ12_put_2_4 ++ dktJ12_put_2_5
def dkwJ12_put_2_3 : List UInt8 := [180, 0, 114, 58, 4, 167, 0, 28, 25, 4, 180, 0, 58, 58, 8, 29, 154, 0, 8, 25, 8, 199, 0, 9]
abbrev dktJ12_put_2_3 : List UInt8 := dkwJ12_put_2_3 ++ dktJ12_put_2_4
def dkwJ12_put_2_2 : List UInt8 := [54, 5, 21, 5, 156, 0, 13, 25, 4, 180, 0, 111, 58, 4, 167, 0, 43, 21, 5, 158, 0, 13, 25, 4]
abbrev dktJ12_put_2_2 : List UInt8 := dkwJ12_put_2_2 ++ dktJ12_put_2_3
def dkwJ12_put_2_1 : List UInt8 := [58, 7, 25, 7, 198, 0, 85, 25, 4, 58, 6, 25, 7, 43, 25, 4, 180, 0, 105, 185, 0, 117, 3, 0]
abbrev dktJ12_put_2_1 : List UInt8 := dkwJ12_put_2_1 ++ dktJ12_put_2_2
def dkwJ12_put_2_0 : List UInt8 := [42, 180, 0, 101, 58, 4, 25, 4, 199, 0, 11, 42, 43, 44, 182, 0, 135, 1, 176, 42, 180, 0, 16]
abbrev dktJ12_put_2_0 : List UInt8 := dkwJ12_put_2_0 ++ dktJ12_put_2_1
theorem dksJ12_put_2_0 : cJ12_put_2.data.toList.drop 0 = dktJ12_put_2_0 := by decide +kernel
theorem dksJ12_put_2_1 : cJ12_put_2.data.toList.drop 23 = dktJ12_put_2_1 := dk_seg dksJ12_put_2_0 23 rfl rfl
theorem dksJ12_put_2_2 : cJ12_put_2.data.toList.drop 47 = dktJ12_put_2_2 := dk_seg dksJ12_put_2_1 24 rfl rfl
theorem dksJ12_put_2_3 : cJ12_put_2.data.toList.drop 71 = dktJ12_put_2_3 := dk_seg dksJ12_put_2_2 24 rfl rfl
theorem dksJ12_put_2_4 : cJ12_put_2.data.toList.drop 95 = dktJ12_put_2_4 := dk_seg dksJ12_put_2_3 24 rfl rfl
theorem dksJ12_put_2_5 : cJ12_put_2.data.toList.drop 118 = dktJ12_put_2_5 := dk_seg dksJ12_put_2_4 23 rfl rfl
theorem dksJ12_put_2_6 : cJ12_put_2.data.toList.drop 141 = dktJ12_put_2_6 := dk_seg dksJ12_put_2_5 23 rfl rfl
theorem dksJ12_put_2_7 : cJ12_put_2.data.toList.drop 163 = dktJ12_put_2_7 := dk_seg dksJ12_put_2_6 22 rfl rfl
theorem dksJ12_put_2_8 : cJ12_put_2.data.toList.drop 187 = dktJ12_put_2_8 := dk_seg dksJ12_put_2_7 24 rfl rfl
theorem dksJ12_put_2_9 : cJ12_put_2.data.toList.drop 211 = dktJ12_put_2_9 := dk_seg dksJ12_put_2_8 24 rfl rfl
theorem dJ12_put_2_0 : decode cJ12_put_2 0 = .ok (.aload_n 0, 1) := dk_42 (dk_at dksJ12_put_2_0 0 rfl rfl)
theorem dJ12_put_2_1 : decode cJ12_put_2 1 = .ok (.getfield 101, 3) := dk_180 0 101 (dk_at dksJ12_put_2_0 1 rfl rfl)
theorem dJ12_put_2_4 : decode cJ12_put_2 4 = .ok (.astore 4, 2) := dk_58 4 (dk_at dksJ12_put_2_0 4 rfl rfl)
theorem dJ12_put_2_6 : decode cJ12_put_2 6 = .ok (.aload 4, 2) := dk_25 4 (dk_at dksJ12_put_2_0 6 rfl rfl)
theorem dJ12_put_2_8 : decode cJ12_put_2 8 = .ok (.ifnonnull 11, 3) := dk_199 0 11 (dk_at dksJ12_put_2_0 8 rfl rfl)
theorem dJ12_put_2_11 : decode cJ12_put_2 11 = .ok (.aload_n 0, 1) := dk_42 (dk_at dksJ12_put_2_0 11 rfl rfl)
theorem dJ12_put_2_12 : decode cJ12_put_2 12 = .ok (.aload_n 1, 1) := dk_43 (dk_at dksJ12_put_2_0 12 rfl rfl)
theorem dJ12_put_2_13 : decode cJ12_put_2 13 = .ok (.aload_n 2, 1) := dk_44 (dk_at dksJ12_put_2_0 13 rfl rfl)
theorem dJ12_put_2_14 : decode cJ12_put_2 14 = .ok (.invokevirtual 135, 3) := dk_182 0 135 (dk_at dksJ12_put_2_0 14 rfl rfl)
theorem dJ12_put_2_17 : decode cJ12_put_2 17 = .ok (.aconst_null, 1) := dk_1 (dk_at dksJ12_put_2_0 17 rfl rfl)
theorem dJ12_put_2_18 : decode cJ12_put_2 18 = .ok (.areturn, 1) := dk_176 (dk_at dksJ12_put_2_0 18 rfl rfl)
theorem dJ12_put_2_19 : decode cJ12_put_2 19 = .ok (.aload_n 0, 1) := dk_42 (dk_at dksJ12_put_2_0 19 rfl rfl)
theorem dJ12_put_2_20 : decode cJ12_put_2 20 = .ok (.getfield 16, 3) := dk_180 0 16 (dk_at dksJ12_put_2_0 20 rfl rfl)
theorem dJ12_put_2_23 : decode cJ12_put_2 23 = .ok (.astore 7, 2) := dk_58 7 (dk_at dksJ12_put_2_1 0 rfl rfl)
theorem dJ12_put_2_25 : decode cJ12_put_2 25 = .ok (.aload 7, 2) := dk_25 7 (dk_at dksJ12_put_2_1 2 rfl rfl)
theorem dJ12_put_2_27 : decode cJ12_put_2 27 = .ok (.ifnull 85, 3) := dk_198 0 85 (dk_at dksJ12_put_2_1 4 rfl rfl)
theorem dJ12_put_2_30 : decode cJ12_put_2 30 = .ok (.aload 4, 2) := dk_25 4 (dk_at dksJ12_put_2_1 7 rfl rfl)
theorem dJ12_put_2_32 : decode cJ12_put_2 32 = .ok (.astore 6, 2) := dk_58 6 (dk_at dksJ12_put_2_1 9 rfl rfl)
theorem dJ12_put_2_34 : decode cJ12_put_2 34 = .ok (.aload 7, 2) := dk_25 7 (dk_at dksJ12_put_2_1 11 rfl rfl)
theorem dJ12_put_2_36 : decode cJ12_put_2 36 = .ok (.aload_n 1, 1) := dk_43 (dk_at dksJ12_put_2_1 13 rfl rfl)
theorem dJ12_put_2_37 : decode cJ12_put_2 37 = .ok (.aload 4, 2) := dk_25 4 (dk_at dksJ12_put_2_1 14 rfl rfl)
theorem dJ12_put_2_39 : decode cJ12_put_2 39 = .ok (.getfield 105, 3) := dk_180 0 105 (dk_at dksJ12_put_2_1 16 rfl rfl)
theorem dJ12_put_2_42 : decode cJ12_put_2 42 = .ok (.invokeinterface 117 3, 5) := by decide +kernel
theorem dJ12_put_2_47 : decode cJ12_put_2 47 = .ok (.istore 5, 2) := dk_54 5 (dk_at dksJ12_put_2_2 0 rfl rfl)
theorem dJ12_put_2_49 : decode cJ12_put_2 49 = .ok (.iload 5, 2) := dk_21 5 (dk_at dksJ12_put_2_2 2 rfl rfl)
theorem dJ12_put_2_51 : decode cJ12_put_2 51 = .ok (.ifCond .ge 13, 3) := dk_156 0 13 (dk_at dksJ12_put_2_2 4 rfl rfl)
theorem dJ12_put_2_54 : decode cJ12_put_2 54 = .ok (.aload 4, 2) := dk_25 4 (dk_at dksJ12_put_2_2 7 rfl rfl)
theorem dJ12_put_2_56 : decode cJ12_put_2 56 = .ok (.getfield 111, 3) := dk_180 0 111 (dk_at dksJ12_put_2_2 9 rfl rfl)
theorem dJ12_put_2_59 : decode cJ12_put_2 59 = .ok (.astore 4, 2) := dk_58 4 (dk_at dksJ12_put_2_2 12 rfl rfl)
theorem dJ12_put_2_61 : decode cJ12_put_2 61 = .ok (.goto 43, 3) := dk_167 0 43 (dk_at dksJ12_put_2_2 14 rfl rfl)
theorem dJ12_put_2_64 : decode cJ12_put_2 64 = .ok (.iload 5, 2) := dk_21 5 (dk_at dksJ12_put_2_2 17 rfl rfl)
theorem dJ12_put_2_66 : decode cJ12_put_2 66 = .ok (.ifCond .le 13, 3) := dk_158 0 13 (dk_at dksJ12_put_2_2 19 rfl rfl)
theorem dJ12_put_2_69 : decode cJ12_put_2 69 = .ok (.aload 4, 2) := dk_25 4 (dk_at dksJ12_put_2_2 22 rfl rfl)
theorem dJ12_put_2_71 : decode cJ12_put_2 71 = .ok (.getfield 114, 3) := dk_180 0 114 (dk_at dksJ12_put_2_3 0 rfl rfl)
theorem dJ12_put_2_74 : decode cJ12_put_2 74 = .ok (.astore 4, 2) := dk_58 4 (dk_at dksJ12_put_2_3 3 rfl rfl)
theorem dJ12_put_2_76 : decode cJ12_put_2 76 = .ok (.goto 28, 3) := dk_167 0 28 (dk_at dksJ12_put_2_3 5 rfl rfl)
theorem dJ12_put_2_79 : decode cJ12_put_2 79 = .ok (.aload 4, 2) := dk_25 4 (dk_at dksJ12_put_2_3 8 rfl rfl)
theorem dJ12_put_2_81 : decode cJ12_put_2 81 = .ok (.getfield 58, 3) := dk_180 0 58 (dk_at dksJ12_put_2_3 10 rfl rfl)
theorem dJ12_put_2_84 : decode cJ12_put_2 84 = .ok (.astore 8, 2) := dk_58 8 (dk_at dksJ12_put_2_3 13 rfl rfl)
theorem dJ12_put_2_86 : decode cJ12_put_2 86 = .ok (.iload_n 3, 1) := dk_29 (dk_at dksJ12_put_2_3 15 rfl rfl)
theorem dJ12_put_2_87 : decode cJ12_put_2 87 = .ok (.ifCond .ne 8, 3) := dk_154 0 8 (dk_at dksJ12_put_2_3 16 rfl rfl)
theorem dJ12_put_2_90 : decode cJ12_put_2 90 = .ok (.aload 8, 2) := dk_25 8 (dk_at dksJ12_put_2_3 19 rfl rfl)
theorem dJ12_put_2_92 : decode cJ12_put_2 92 = .ok (.ifnonnull 9, 3) := dk_199 0 9 (dk_at dksJ12_put_2_3 21 rfl rfl)
theorem dJ12_put_2_95 : decode cJ12_put_2 95 = .ok (.aload 4, 2) := dk_25 4 (dk_at dksJ12_put_2_4 0 rfl rfl)
theorem dJ12_put_2_97 : decode cJ12_put_2 97 = .ok (.aload_n 2, 1) := dk_44 (dk_at dksJ12_put_2_4 2 rfl rfl)
theorem dJ12_put_2_98 : decode cJ12_put_2 98 = .ok (.putfield 58, 3) := dk_181 0 58 (dk_at dksJ12_put_2_4 3 rfl rfl)
theorem dJ12_put_2_101 : decode cJ12_put_2 101 = .ok (.aload 8, 2) := dk_25 8 (dk_at dksJ12_put_2_4 6 rfl rfl)
theorem dJ12_put_2_103 : decode cJ12_put_2 103 = .ok (.areturn, 1) := dk_176 (dk_at dksJ12_put_2_4 8 rfl rfl)
theorem dJ12_put_2_104 : decode cJ12_put_2 104 = .ok (.aload 4, 2) := dk_25 4 (dk_at dksJ12_put_2_4 9 rfl rfl)
theorem dJ12_put_2_106 : decode cJ12_put_2 106 = .ok (.ifnonnull (-76), 3) := dk_199 255 180 (dk_at dksJ12_put_2_4 11 rfl rfl)
theorem dJ12_put_2_109 : decode cJ12_put_2 109 = .ok (.goto 92, 3) := dk_167 0 92 (dk_at dksJ12_put_2_4 14 rfl rfl)
theorem dJ12_put_2_112 : decode cJ12_put_2 112 = .ok (.aload_n 1, 1) := dk_43 (dk_at dksJ12_put_2_4 17 rfl rfl)
theorem dJ12_put_2_113 : decode cJ12_put_2 113 = .ok (.invokestatic 95, 3) := dk_184 0 95 (dk_at dksJ12_put_2_4 18 rfl rfl)
theorem dJ12_put_2_116 : decode cJ12_put_2 116 = .ok (.pop, 1) := dk_87 (dk_at dksJ12_put_2_4 21 rfl rfl)
theorem dJ12_put_2_117 : decode cJ12_put_2 117 = .ok (.aload_n 1, 1) := dk_43 (dk_at dksJ12_put_2_4 22 rfl rfl)
theorem dJ12_put_2_118 : decode cJ12_put_2 118 = .ok (.checkcast 99, 3) := dk_192 0 99 (dk_at dksJ12_put_2_5 0 rfl rfl)
theorem dJ12_put_2_121 : decode cJ12_put_2 121 = .ok (.astore 8, 2) := dk_58 8 (dk_at dksJ12_put_2_5 3 rfl rfl)
theorem dJ12_put_2_123 : decode cJ12_put_2 123 = .ok (.aload 4, 2) := dk_25 4 (dk_at dksJ12_put_2_5 5 rfl rfl)
theorem dJ12_put_2_125 : decode cJ12_put_2 125 = .ok (.astore 6, 2) := dk_58 6 (dk_at dksJ12_put_2_5 7 rfl rfl)
theorem dJ12_put_2_127 : decode cJ12_put_2 127 = .ok (.aload 8, 2) := dk_25 8 (dk_at dksJ12_put_2_5 9 rfl rfl)
theorem dJ12_put_2_129 : decode cJ12_put_2 129 = .ok (.aload 4, 2) := dk_25 4 (dk_at dksJ12_put_2_5 11 rfl rfl)
theorem dJ12_put_2_131 : decode cJ12_put_2 131 = .ok (.getfield 105, 3) := dk_180 0 105 (dk_at dksJ12_put_2_5 13 rfl rfl)
theorem dJ12_put_2_134 : decode cJ12_put_2 134 = .ok (.invokeinterface 107 2, 5) := by decide +kernel
theorem dJ12_put_2_139 : decode cJ12_put_2 139 = .ok (.istore 5, 2) := dk_54 5 (dk_at dksJ12_put_2_5 21 rfl rfl)
theorem dJ12_put_2_141 : decode cJ12_put_2 141 = .ok (.iload 5, 2) := dk_21 5 (dk_at dksJ12_put_2_6 0 rfl rfl)
theorem dJ12_put_2_143 : decode cJ12_put_2 143 = .ok (.ifCond .ge 13, 3) := dk_156 0 13 (dk_at dksJ12_put_2_6 2 rfl rfl)
theorem dJ12_put_2_146 : decode cJ12_put_2 146 = .ok (.aload 4, 2) := dk_25 4 (dk_at dksJ12_put_2_6 5 rfl rfl)
theorem dJ12_put_2_148 : decode cJ12_put_2 148 = .ok (.getfield 111, 3) := dk_180 0 111 (dk_at dksJ12_put_2_6 7 rfl rfl)
theorem dJ12_put_2_151 : decode cJ12_put_2 151 = .ok (.astore 4, 2) := dk_58 4 (dk_at dksJ12_put_2_6 10 rfl rfl)
theorem dJ12_put_2_153 : decode cJ12_put_2 153 = .ok (.goto 43, 3) := dk_167 0 43 (dk_at dksJ12_put_2_6 12 rfl rfl)
theorem dJ12_put_2_156 : decode cJ12_put_2 156 = .ok (.iload 5, 2) := dk_21 5 (dk_at dksJ12_put_2_6 15 rfl rfl)
theorem dJ12_put_2_158 : decode cJ12_put_2 158 = .ok (.ifCond .le 13, 3) := dk_158 0 13 (dk_at dksJ12_put_2_6 17 rfl rfl)
theorem dJ12_put_2_161 : decode cJ12_put_2 161 = .ok (.aload 4, 2) := dk_25 4 (dk_at dksJ12_put_2_6 20 rfl rfl)
theorem dJ12_put_2_163 : decode cJ12_put_2 163 = .ok (.getfield 114, 3) := dk_180 0 114 (dk_at dksJ12_put_2_7 0 rfl rfl)
theorem dJ12_put_2_166 : decode cJ12_put_2 166 = .ok (.astore 4, 2) := dk_58 4 (dk_at dksJ12_put_2_7 3 rfl rfl)
theorem dJ12_put_2_168 : decode cJ12_put_2 168 = .ok (.goto 28, 3) := dk_167 0 28 (dk_at dksJ12_put_2_7 5 rfl rfl)
theorem dJ12_put_2_171 : decode cJ12_put_2 171 = .ok (.aload 4, 2) := dk_25 4 (dk_at dksJ12_put_2_7 8 rfl rfl)
theorem dJ12_put_2_173 : decode cJ12_put_2 173 = .ok (.getfield 58, 3) := dk_180 0 58 (dk_at dksJ12_put_2_7 10 rfl rfl)
theorem dJ12_put_2_176 : decode cJ12_put_2 176 = .ok (.astore 9, 2) := dk_58 9 (dk_at dksJ12_put_2_7 13 rfl rfl)
theorem dJ12_put_2_178 : decode cJ12_put_2 178 = .ok (.iload_n 3, 1) := dk_29 (dk_at dksJ12_put_2_7 15 rfl rfl)
theorem dJ12_put_2_179 : decode cJ12_put_2 179 = .ok (.ifCond .ne 8, 3) := dk_154 0 8 (dk_at dksJ12_put_2_7 16 rfl rfl)
theorem dJ12_put_2_182 : decode cJ12_put_2 182 = .ok (.aload 9, 2) := dk_25 9 (dk_at dksJ12_put_2_7 19 rfl rfl)
theorem dJ12_put_2_184 : decode cJ12_put_2 184 = .ok (.ifnonnull 9, 3) := dk_199 0 9 (dk_at dksJ12_put_2_7 21 rfl rfl)
theorem dJ12_put_2_187 : decode cJ12_put_2 187 = .ok (.aload 4, 2) := dk_25 4 (dk_at dksJ12_put_2_8 0 rfl rfl)
theorem dJ12_put_2_189 : decode cJ12_put_2 189 = .ok (.aload_n 2, 1) := dk_44 (dk_at dksJ12_put_2_8 2 rfl rfl)
theorem dJ12_put_2_190 : decode cJ12_put_2 190 = .ok (.putfield 58, 3) := dk_181 0 58 (dk_at dksJ12_put_2_8 3 rfl rfl)
theorem dJ12_put_2_193 : decode cJ12_put_2 193 = .ok (.aload 9, 2) := dk_25 9 (dk_at dksJ12_put_2_8 6 rfl rfl)
theorem dJ12_put_2_195 : decode cJ12_put_2 195 = .ok (.areturn, 1) := dk_176 (dk_at dksJ12_put_2_8 8 rfl rfl)
theorem dJ12_put_2_196 : decode cJ12_put_2 196 = .ok (.aload 4, 2) := dk_25 4 (dk_at dksJ12_put_2_8 9 rfl rfl)
theorem dJ12_put_2_198 : decode cJ12_put_2 198 = .ok (.ifnonnull (-75), 3) := dk_199 255 181 (dk_at dksJ12_put_2_8 11 rfl rfl)
theorem dJ12_put_2_201 : decode cJ12_put_2 201 = .ok (.aload_n 0, 1) := dk_42 (dk_at dksJ12_put_2_8 14 rfl rfl)
theorem dJ12_put_2_202 : decode cJ12_put_2 202 = .ok (.aload_n 1, 1) := dk_43 (dk_at dksJ12_put_2_8 15 rfl rfl)
theorem dJ12_put_2_203 : decode cJ12_put_2 203 = .ok (.aload_n 2, 1) := dk_44 (dk_at dksJ12_put_2_8 16 rfl rfl)
theorem dJ12_put_2_204 : decode cJ12_put_2 204 = .ok (.aload 6, 2) := dk_25 6 (dk_at dksJ12_put_2_8 17 rfl rfl)
theorem dJ12_put_2_206 : decode cJ12_put_2 206 = .ok (.iload 5, 2) := dk_21 5 (dk_at dksJ12_put_2_8 19 rfl rfl)
theorem dJ12_put_2_208 : decode cJ12_put_2 208 = .ok (.ifCond .ge 7, 3) := dk_156 0 7 (dk_at dksJ12_put_2_8 21 rfl rfl)
theorem dJ12_put_2_211 : decode cJ12_put_2 211 = .ok (.iconst 1, 1) := dk_4 (dk_at dksJ12_put_2_9 0 rfl rfl)
theorem dJ12_put_2_212 : decode cJ12_put_2 212 = .ok (.goto 4, 3) := dk_167 0 4 (dk_at dksJ12_put_2_9 1 rfl rfl)
theorem dJ12_put_2_215 : decode cJ12_put_2 215 = .ok (.iconst 0, 1) := dk_3 (dk_at dksJ12_put_2_9 4 rfl rfl)
theorem dJ12_put_2_216 : decode cJ12_put_2 216 = .ok (.invokevirtual 139, 3) := dk_182 0 139 (dk_at dksJ12_put_2_9 5 rfl rfl)
theorem dJ12_put_2_219 : decode cJ12_put_2 219 = .ok (.aconst_null, 1) := dk_1 (dk_at dksJ12_put_2_9 8 rfl rfl)
theorem dJ12_put_2_220 : decode cJ12_put_2 220 = .ok (.areturn, 1) := dk_176 (dk_at dksJ12_put_2_9 9 rfl rfl)
abbrev cJ12_addEntryToEmptyMap : ByteArray := prog_77_method_30_code
def yJ12_addEntryToEmptyMap : MethodName := ⟨RJ12, "addEntryToEmptyMap", "(Ljava/lang/Object;Ljava/lang/Object;)V"⟩
def dkwJ12_addEntryToEmptyMap_1 : List UInt8 := [181, 0, 7, 42, 89, 180, 0, 13, 4, 96, 181, 0, 13, 177]
abbrev dktJ12_addEntryToEmptyMap_1 : List UInt8 := dkwJ12_addEntryToEmptyMap_1 ++ []
def dkwJ12_addEntryToEmptyMap_0 : List UInt8 := [42, 43, 43, 182, 0, 123, 87, 42, 187, 0, 59, 89, 43, 44, 1, 183, 0, 167, 181, 0, 101, 42, 4]
abbrev dktJ12_addEntryToEmptyMap_0 : List UInt8 := dkwJ12_addEntryToEmptyMap_0 ++ dktJ12_addEntryToEmptyMap_1
theorem dksJ12_addEntryToEmptyMap_0 : cJ12_addEntryToEmptyMap.data.toList.drop 0 = dktJ12_addEntryToEmptyMap_0 := by decide +kernel
theorem dksJ12_addEntryToEmptyMap_1 : cJ12_addEntryToEmptyMap.data.toList.drop 23 = dktJ12_addEntryToEmptyMap_1 := dk_seg dksJ12_addEntryToEmptyMap_0 23 rfl rfl
theorem dJ12_addEntryToEmptyMap_0 : decode cJ12_addEntryToEmptyMap 0 = .ok (.aload_n 0, 1) := dk_42 (dk_at dksJ12_addEntryToEmptyMap_0 0 rfl rfl)
theorem dJ12_addEntryToEmptyMap_1 : decode cJ12_addEntryToEmptyMap 1 = .ok (.aload_n 1, 1) := dk_43 (dk_at dksJ12_addEntryToEmptyMap_0 1 rfl rfl)
theorem dJ12_addEntryToEmptyMap_2 : decode cJ12_addEntryToEmptyMap 2 = .ok (.aload_n 1, 1) := dk_43 (dk_at dksJ12_addEntryToEmptyMap_0 2 rfl rfl)
theorem dJ12_addEntryToEmptyMap_3 : decode cJ12_addEntryToEmptyMap 3 = .ok (.invokevirtual 123, 3) := dk_182 0 123 (dk_at dksJ12_addEntryToEmptyMap_0 3 rfl rfl)
theorem dJ12_addEntryToEmptyMap_6 : decode cJ12_addEntryToEmptyMap 6 = .ok (.pop, 1) := dk_87 (dk_at dksJ12_addEntryToEmptyMap_0 6 rfl rfl)
theorem dJ12_addEntryToEmptyMap_7 : decode cJ12_addEntryToEmptyMap 7 = .ok (.aload_n 0, 1) := dk_42 (dk_at dksJ12_addEntryToEmptyMap_0 7 rfl rfl)
theorem dJ12_addEntryToEmptyMap_8 : decode cJ12_addEntryToEmptyMap 8 = .ok (.new 59, 3) := dk_187 0 59 (dk_at dksJ12_addEntryToEmptyMap_0 8 rfl rfl)
theorem dJ12_addEntryToEmptyMap_11 : decode cJ12_addEntryToEmptyMap 11 = .ok (.dup, 1) := dk_89 (dk_at dksJ12_addEntryToEmptyMap_0 11 rfl rfl)
theorem dJ12_addEntryToEmptyMap_12 : decode cJ12_addEntryToEmptyMap 12 = .ok (.aload_n 1, 1) := dk_43 (dk_at dksJ12_addEntryToEmptyMap_0 12 rfl rfl)
theorem dJ12_addEntryToEmptyMap_13 : decode cJ12_addEntryToEmptyMap 13 = .ok (.aload_n 2, 1) := dk_44 (dk_at dksJ12_addEntryToEmptyMap_0 13 rfl rfl)
theorem dJ12_addEntryToEmptyMap_14 : decode cJ12_addEntryToEmptyMap 14 = .ok (.aconst_null, 1) := dk_1 (dk_at dksJ12_addEntryToEmptyMap_0 14 rfl rfl)
theorem dJ12_addEntryToEmptyMap_15 : decode cJ12_addEntryToEmptyMap 15 = .ok (.invokespecial 167, 3) := dk_183 0 167 (dk_at dksJ12_addEntryToEmptyMap_0 15 rfl rfl)
theorem dJ12_addEntryToEmptyMap_18 : decode cJ12_addEntryToEmptyMap 18 = .ok (.putfield 101, 3) := dk_181 0 101 (dk_at dksJ12_addEntryToEmptyMap_0 18 rfl rfl)
theorem dJ12_addEntryToEmptyMap_21 : decode cJ12_addEntryToEmptyMap 21 = .ok (.aload_n 0, 1) := dk_42 (dk_at dksJ12_addEntryToEmptyMap_0 21 rfl rfl)
theorem dJ12_addEntryToEmptyMap_22 : decode cJ12_addEntryToEmptyMap 22 = .ok (.iconst 1, 1) := dk_4 (dk_at dksJ12_addEntryToEmptyMap_0 22 rfl rfl)
theorem dJ12_addEntryToEmptyMap_23 : decode cJ12_addEntryToEmptyMap 23 = .ok (.putfield 7, 3) := dk_181 0 7 (dk_at dksJ12_addEntryToEmptyMap_1 0 rfl rfl)
theorem dJ12_addEntryToEmptyMap_26 : decode cJ12_addEntryToEmptyMap 26 = .ok (.aload_n 0, 1) := dk_42 (dk_at dksJ12_addEntryToEmptyMap_1 3 rfl rfl)
theorem dJ12_addEntryToEmptyMap_27 : decode cJ12_addEntryToEmptyMap 27 = .ok (.dup, 1) := dk_89 (dk_at dksJ12_addEntryToEmptyMap_1 4 rfl rfl)
theorem dJ12_addEntryToEmptyMap_28 : decode cJ12_addEntryToEmptyMap 28 = .ok (.getfield 13, 3) := dk_180 0 13 (dk_at dksJ12_addEntryToEmptyMap_1 5 rfl rfl)
theorem dJ12_addEntryToEmptyMap_31 : decode cJ12_addEntryToEmptyMap 31 = .ok (.iconst 1, 1) := dk_4 (dk_at dksJ12_addEntryToEmptyMap_1 8 rfl rfl)
theorem dJ12_addEntryToEmptyMap_32 : decode cJ12_addEntryToEmptyMap 32 = .ok (.iadd, 1) := dk_96 (dk_at dksJ12_addEntryToEmptyMap_1 9 rfl rfl)
theorem dJ12_addEntryToEmptyMap_33 : decode cJ12_addEntryToEmptyMap 33 = .ok (.putfield 13, 3) := dk_181 0 13 (dk_at dksJ12_addEntryToEmptyMap_1 10 rfl rfl)
theorem dJ12_addEntryToEmptyMap_36 : decode cJ12_addEntryToEmptyMap 36 = .ok (.return_, 1) := dk_177 (dk_at dksJ12_addEntryToEmptyMap_1 13 rfl rfl)
abbrev cJ12_compare : ByteArray := prog_77_method_67_code
def yJ12_compare : MethodName := ⟨RJ12, "compare", "(Ljava/lang/Object;Ljava/lang/Object;)I"⟩
def dkwJ12_compare_1 : List UInt8 := [43, 44, 185, 0, 117, 3, 0, 172]
abbrev dktJ12_compare_1 : List UInt8 := dkwJ12_compare_1 ++ []
def dkwJ12_compare_0 : List UInt8 := [42, 180, 0, 16, 199, 0, 16, 43, 192, 0, 99, 44, 185, 0, 107, 2, 0, 167, 0, 14, 42, 180, 0, 16]
abbrev dktJ12_compare_0 : List UInt8 := dkwJ12_compare_0 ++ dktJ12_compare_1
theorem dksJ12_compare_0 : cJ12_compare.data.toList.drop 0 = dktJ12_compare_0 := by decide +kernel
theorem dksJ12_compare_1 : cJ12_compare.data.toList.drop 24 = dktJ12_compare_1 := dk_seg dksJ12_compare_0 24 rfl rfl
theorem dJ12_compare_0 : decode cJ12_compare 0 = .ok (.aload_n 0, 1) := dk_42 (dk_at dksJ12_compare_0 0 rfl rfl)
theorem dJ12_compare_1 : decode cJ12_compare 1 = .ok (.getfield 16, 3) := dk_180 0 16 (dk_at dksJ12_compare_0 1 rfl rfl)
theorem dJ12_compare_4 : decode cJ12_compare 4 = .ok (.ifnonnull 16, 3) := dk_199 0 16 (dk_at dksJ12_compare_0 4 rfl rfl)
theorem dJ12_compare_7 : decode cJ12_compare 7 = .ok (.aload_n 1, 1) := dk_43 (dk_at dksJ12_compare_0 7 rfl rfl)
theorem dJ12_compare_8 : decode cJ12_compare 8 = .ok (.checkcast 99, 3) := dk_192 0 99 (dk_at dksJ12_compare_0 8 rfl rfl)
theorem dJ12_compare_11 : decode cJ12_compare 11 = .ok (.aload_n 2, 1) := dk_44 (dk_at dksJ12_compare_0 11 rfl rfl)
theorem dJ12_compare_12 : decode cJ12_compare 12 = .ok (.invokeinterface 107 2, 5) := by decide +kernel
theorem dJ12_compare_17 : decode cJ12_compare 17 = .ok (.goto 14, 3) := dk_167 0 14 (dk_at dksJ12_compare_0 17 rfl rfl)
theorem dJ12_compare_20 : decode cJ12_compare 20 = .ok (.aload_n 0, 1) := dk_42 (dk_at dksJ12_compare_0 20 rfl rfl)
theorem dJ12_compare_21 : decode cJ12_compare 21 = .ok (.getfield 16, 3) := dk_180 0 16 (dk_at dksJ12_compare_0 21 rfl rfl)
theorem dJ12_compare_24 : decode cJ12_compare 24 = .ok (.aload_n 1, 1) := dk_43 (dk_at dksJ12_compare_1 0 rfl rfl)
theorem dJ12_compare_25 : decode cJ12_compare 25 = .ok (.aload_n 2, 1) := dk_44 (dk_at dksJ12_compare_1 1 rfl rfl)
theorem dJ12_compare_26 : decode cJ12_compare 26 = .ok (.invokeinterface 117 3, 5) := by decide +kernel
theorem dJ12_compare_31 : decode cJ12_compare 31 = .ok (.ireturn, 1) := dk_172 (dk_at dksJ12_compare_1 7 rfl rfl)
abbrev cJ12_addEntry : ByteArray := prog_77_method_29_code
def yJ12_addEntry : MethodName := ⟨RJ12, "addEntry", "(Ljava/lang/Object;Ljava/lang/Object;Ljava/util/TreeMap$Entry;Z)V"⟩
def dkwJ12_addEntry_2 : List UInt8 := [181, 0, 7, 42, 89, 180, 0, 13, 4, 96, 181, 0, 13, 177]
abbrev dktJ12_addEntry_2 : List UInt8 := dkwJ12_addEntry_2 ++ []
def dkwJ12_addEntry_1 : List UInt8 := [167, 0, 9, 45, 25, 5, 181, 0, 114, 42, 25, 5, 182, 0, 170, 42, 89, 180, 0, 7, 4, 96]
abbrev dktJ12_addEntry_1 : List UInt8 := dkwJ12_addEntry_1 ++ dktJ12_addEntry_2
def dkwJ12_addEntry_0 : List UInt8 := [187, 0, 59, 89, 43, 44, 45, 183, 0, 167, 58, 5, 21, 4, 153, 0, 12, 45, 25, 5, 181, 0, 111]
abbrev dktJ12_addEntry_0 : List UInt8 := dkwJ12_addEntry_0 ++ dktJ12_addEntry_1
theorem dksJ12_addEntry_0 : cJ12_addEntry.data.toList.drop 0 = dktJ12_addEntry_0 := by decide +kernel
theorem dksJ12_addEntry_1 : cJ12_addEntry.data.toList.drop 23 = dktJ12_addEntry_1 := dk_seg dksJ12_addEntry_0 23 rfl rfl
theorem dksJ12_addEntry_2 : cJ12_addEntry.data.toList.drop 45 = dktJ12_addEntry_2 := dk_seg dksJ12_addEntry_1 22 rfl rfl
theorem dJ12_addEntry_0 : decode cJ12_addEntry 0 = .ok (.new 59, 3) := dk_187 0 59 (dk_at dksJ12_addEntry_0 0 rfl rfl)
theorem dJ12_addEntry_3 : decode cJ12_addEntry 3 = .ok (.dup, 1) := dk_89 (dk_at dksJ12_addEntry_0 3 rfl rfl)
theorem dJ12_addEntry_4 : decode cJ12_addEntry 4 = .ok (.aload_n 1, 1) := dk_43 (dk_at dksJ12_addEntry_0 4 rfl rfl)
theorem dJ12_addEntry_5 : decode cJ12_addEntry 5 = .ok (.aload_n 2, 1) := dk_44 (dk_at dksJ12_addEntry_0 5 rfl rfl)
theorem dJ12_addEntry_6 : decode cJ12_addEntry 6 = .ok (.aload_n 3, 1) := dk_45 (dk_at dksJ12_addEntry_0 6 rfl rfl)
theorem dJ12_addEntry_7 : decode cJ12_addEntry 7 = .ok (.invokespecial 167, 3) := dk_183 0 167 (dk_at dksJ12_addEntry_0 7 rfl rfl)
theorem dJ12_addEntry_10 : decode cJ12_addEntry 10 = .ok (.astore 5, 2) := dk_58 5 (dk_at dksJ12_addEntry_0 10 rfl rfl)
theorem dJ12_addEntry_12 : decode cJ12_addEntry 12 = .ok (.iload 4, 2) := dk_21 4 (dk_at dksJ12_addEntry_0 12 rfl rfl)
theorem dJ12_addEntry_14 : decode cJ12_addEntry 14 = .ok (.ifCond .eq 12, 3) := dk_153 0 12 (dk_at dksJ12_addEntry_0 14 rfl rfl)
theorem dJ12_addEntry_17 : decode cJ12_addEntry 17 = .ok (.aload_n 3, 1) := dk_45 (dk_at dksJ12_addEntry_0 17 rfl rfl)
theorem dJ12_addEntry_18 : decode cJ12_addEntry 18 = .ok (.aload 5, 2) := dk_25 5 (dk_at dksJ12_addEntry_0 18 rfl rfl)
theorem dJ12_addEntry_20 : decode cJ12_addEntry 20 = .ok (.putfield 111, 3) := dk_181 0 111 (dk_at dksJ12_addEntry_0 20 rfl rfl)
theorem dJ12_addEntry_23 : decode cJ12_addEntry 23 = .ok (.goto 9, 3) := dk_167 0 9 (dk_at dksJ12_addEntry_1 0 rfl rfl)
theorem dJ12_addEntry_26 : decode cJ12_addEntry 26 = .ok (.aload_n 3, 1) := dk_45 (dk_at dksJ12_addEntry_1 3 rfl rfl)
theorem dJ12_addEntry_27 : decode cJ12_addEntry 27 = .ok (.aload 5, 2) := dk_25 5 (dk_at dksJ12_addEntry_1 4 rfl rfl)
theorem dJ12_addEntry_29 : decode cJ12_addEntry 29 = .ok (.putfield 114, 3) := dk_181 0 114 (dk_at dksJ12_addEntry_1 6 rfl rfl)
theorem dJ12_addEntry_32 : decode cJ12_addEntry 32 = .ok (.aload_n 0, 1) := dk_42 (dk_at dksJ12_addEntry_1 9 rfl rfl)
theorem dJ12_addEntry_33 : decode cJ12_addEntry 33 = .ok (.aload 5, 2) := dk_25 5 (dk_at dksJ12_addEntry_1 10 rfl rfl)
theorem dJ12_addEntry_35 : decode cJ12_addEntry 35 = .ok (.invokevirtual 170, 3) := dk_182 0 170 (dk_at dksJ12_addEntry_1 12 rfl rfl)
theorem dJ12_addEntry_38 : decode cJ12_addEntry 38 = .ok (.aload_n 0, 1) := dk_42 (dk_at dksJ12_addEntry_1 15 rfl rfl)
theorem dJ12_addEntry_39 : decode cJ12_addEntry 39 = .ok (.dup, 1) := dk_89 (dk_at dksJ12_addEntry_1 16 rfl rfl)
theorem dJ12_addEntry_40 : decode cJ12_addEntry 40 = .ok (.getfield 7, 3) := dk_180 0 7 (dk_at dksJ12_addEntry_1 17 rfl rfl)
theorem dJ12_addEntry_43 : decode cJ12_addEntry 43 = .ok (.iconst 1, 1) := dk_4 (dk_at dksJ12_addEntry_1 20 rfl rfl)
theorem dJ12_addEntry_44 : decode cJ12_addEntry 44 = .ok (.iadd, 1) := dk_96 (dk_at dksJ12_addEntry_1 21 rfl rfl)
theorem dJ12_addEntry_45 : decode cJ12_addEntry 45 = .ok (.putfield 7, 3) := dk_181 0 7 (dk_at dksJ12_addEntry_2 0 rfl rfl)
theorem dJ12_addEntry_48 : decode cJ12_addEntry 48 = .ok (.aload_n 0, 1) := dk_42 (dk_at dksJ12_addEntry_2 3 rfl rfl)
theorem dJ12_addEntry_49 : decode cJ12_addEntry 49 = .ok (.dup, 1) := dk_89 (dk_at dksJ12_addEntry_2 4 rfl rfl)
theorem dJ12_addEntry_50 : decode cJ12_addEntry 50 = .ok (.getfield 13, 3) := dk_180 0 13 (dk_at dksJ12_addEntry_2 5 rfl rfl)
theorem dJ12_addEntry_53 : decode cJ12_addEntry 53 = .ok (.iconst 1, 1) := dk_4 (dk_at dksJ12_addEntry_2 8 rfl rfl)
theorem dJ12_addEntry_54 : decode cJ12_addEntry 54 = .ok (.iadd, 1) := dk_96 (dk_at dksJ12_addEntry_2 9 rfl rfl)
theorem dJ12_addEntry_55 : decode cJ12_addEntry 55 = .ok (.putfield 13, 3) := dk_181 0 13 (dk_at dksJ12_addEntry_2 10 rfl rfl)
theorem dJ12_addEntry_58 : decode cJ12_addEntry 58 = .ok (.return_, 1) := dk_177 (dk_at dksJ12_addEntry_2 13 rfl rfl)
abbrev cJ12_fixAfterInsertion : ByteArray := prog_77_method_83_code
def yJ12_fixAfterInsertion : MethodName := ⟨RJ12, "fixAfterInsertion", "(Ljava/util/TreeMap$Entry;)V"⟩
def dkwJ12_fixAfterInsertion_11 : List UInt8 := [42, 180, 0, 101, 4, 181, 1, 34, 177]
abbrev dktJ12_fixAfterInsertion_11 : List UInt8 := dkwJ12_fixAfterInsertion_11 ++ []
def dkwJ12_fixAfterInsertion_10 : List UInt8 := [184, 1, 38, 184, 1, 38, 3, 184, 1, 51, 42, 43, 184, 1, 38, 184, 1, 38, 182, 1, 55, 167, 255, 6]
abbrev dktJ12_fixAfterInsertion_10 : List UInt8 := dkwJ12_fixAfterInsertion_10 ++ dktJ12_fixAfterInsertion_11
def dkwJ12_fixAfterInsertion_9 : List UInt8 := [166, 0, 13, 43, 184, 1, 38, 76, 42, 43, 182, 1, 58, 43, 184, 1, 38, 4, 184, 1, 51, 43]
abbrev dktJ12_fixAfterInsertion_9 : List UInt8 := dkwJ12_fixAfterInsertion_9 ++ dktJ12_fixAfterInsertion_10
def dkwJ12_fixAfterInsertion_8 : List UInt8 := [184, 1, 51, 43, 184, 1, 38, 184, 1, 38, 76, 167, 0, 54, 43, 43, 184, 1, 38, 184, 1, 41]
abbrev dktJ12_fixAfterInsertion_8 : List UInt8 := dkwJ12_fixAfterInsertion_8 ++ dktJ12_fixAfterInsertion_9
def dkwJ12_fixAfterInsertion_7 : List UInt8 := [154, 0, 38, 43, 184, 1, 38, 4, 184, 1, 51, 44, 4, 184, 1, 51, 43, 184, 1, 38, 184, 1, 38, 3]
abbrev dktJ12_fixAfterInsertion_7 : List UInt8 := dkwJ12_fixAfterInsertion_7 ++ dktJ12_fixAfterInsertion_8
def dkwJ12_fixAfterInsertion_6 : List UInt8 := [184, 1, 38, 182, 1, 58, 167, 255, 113, 43, 184, 1, 38, 184, 1, 38, 184, 1, 41, 77, 44, 184, 1, 47]
abbrev dktJ12_fixAfterInsertion_6 : List UInt8 := dkwJ12_fixAfterInsertion_6 ++ dktJ12_fixAfterInsertion_7
def dkwJ12_fixAfterInsertion_5 : List UInt8 := [43, 184, 1, 38, 4, 184, 1, 51, 43, 184, 1, 38, 184, 1, 38, 3, 184, 1, 51, 42, 43, 184, 1, 38]
abbrev dktJ12_fixAfterInsertion_5 : List UInt8 := dkwJ12_fixAfterInsertion_5 ++ dktJ12_fixAfterInsertion_6
def dkwJ12_fixAfterInsertion_4 : List UInt8 := [167, 0, 54, 43, 43, 184, 1, 38, 184, 1, 44, 166, 0, 13, 43, 184, 1, 38, 76, 42, 43, 182, 1, 55]
abbrev dktJ12_fixAfterInsertion_4 : List UInt8 := dkwJ12_fixAfterInsertion_4 ++ dktJ12_fixAfterInsertion_5
def dkwJ12_fixAfterInsertion_3 : List UInt8 := [184, 1, 51, 43, 184, 1, 38, 184, 1, 38, 3, 184, 1, 51, 43, 184, 1, 38, 184, 1, 38, 76]
abbrev dktJ12_fixAfterInsertion_3 : List UInt8 := dkwJ12_fixAfterInsertion_3 ++ dktJ12_fixAfterInsertion_4
def dkwJ12_fixAfterInsertion_2 : List UInt8 := [184, 1, 38, 184, 1, 44, 77, 44, 184, 1, 47, 154, 0, 38, 43, 184, 1, 38, 4, 184, 1, 51, 44, 4]
abbrev dktJ12_fixAfterInsertion_2 : List UInt8 := dkwJ12_fixAfterInsertion_2 ++ dktJ12_fixAfterInsertion_3
def dkwJ12_fixAfterInsertion_1 : List UInt8 := [154, 0, 234, 43, 184, 1, 38, 43, 184, 1, 38, 184, 1, 38, 184, 1, 41, 166, 0, 110, 43, 184, 1, 38]
abbrev dktJ12_fixAfterInsertion_1 : List UInt8 := dkwJ12_fixAfterInsertion_1 ++ dktJ12_fixAfterInsertion_2
def dkwJ12_fixAfterInsertion_0 : List UInt8 := [43, 3, 181, 1, 34, 43, 198, 0, 252, 43, 42, 180, 0, 101, 165, 0, 244, 43, 180, 0, 124, 180, 1, 34]
abbrev dktJ12_fixAfterInsertion_0 : List UInt8 := dkwJ12_fixAfterInsertion_0 ++ dktJ12_fixAfterInsertion_1
theorem dksJ12_fixAfterInsertion_0 : cJ12_fixAfterInsertion.data.toList.drop 0 = dktJ12_fixAfterInsertion_0 := by decide +kernel
theorem dksJ12_fixAfterInsertion_1 : cJ12_fixAfterInsertion.data.toList.drop 24 = dktJ12_fixAfterInsertion_1 := dk_seg dksJ12_fixAfterInsertion_0 24 rfl rfl
theorem dksJ12_fixAfterInsertion_2 : cJ12_fixAfterInsertion.data.toList.drop 48 = dktJ12_fixAfterInsertion_2 := dk_seg dksJ12_fixAfterInsertion_1 24 rfl rfl
theorem dksJ12_fixAfterInsertion_3 : cJ12_fixAfterInsertion.data.toList.drop 72 = dktJ12_fixAfterInsertion_3 := dk_seg dksJ12_fixAfterInsertion_2 24 rfl rfl
theorem dksJ12_fixAfterInsertion_4 : cJ12_fixAfterInsertion.data.toList.drop 94 = dktJ12_fixAfterInsertion_4 := dk_seg dksJ12_fixAfterInsertion_3 22 rfl rfl
theorem dksJ12_fixAfterInsertion_5 : cJ12_fixAfterInsertion.data.toList.drop 118 = dktJ12_fixAfterInsertion_5 := dk_seg dksJ12_fixAfterInsertion_4 24 rfl rfl
theorem dksJ12_fixAfterInsertion_6 : cJ12_fixAfterInsertion.data.toList.drop 142 = dktJ12_fixAfterInsertion_6 := dk_seg dksJ12_fixAfterInsertion_5 24 rfl rfl
theorem dksJ12_fixAfterInsertion_7 : cJ12_fixAfterInsertion.data.toList.drop 166 = dktJ12_fixAfterInsertion_7 := dk_seg dksJ12_fixAfterInsertion_6 24 rfl rfl
theorem dksJ12_fixAfterInsertion_8 : cJ12_fixAfterInsertion.data.toList.drop 190 = dktJ12_fixAfterInsertion_8 := dk_seg dksJ12_fixAfterInsertion_7 24 rfl rfl
theorem dksJ12_fixAfterInsertion_9 : cJ12_fixAfterInsertion.data.toList.drop 212 = dktJ12_fixAfterInsertion_9 := dk_seg dksJ12_fixAfterInsertion_8 22 rfl rfl
theorem dksJ12_fixAfterInsertion_10 : cJ12_fixAfterInsertion.data.toList.drop 234 = dktJ12_fixAfterInsertion_10 := dk_seg dksJ12_fixAfterInsertion_9 22 rfl rfl
theorem dksJ12_fixAfterInsertion_11 : cJ12_fixAfterInsertion.data.toList.drop 258 = dktJ12_fixAfterInsertion_11 := dk_seg dksJ12_fixAfterInsertion_10 24 rfl rfl
theorem dJ12_fixAfterInsertion_0 : decode cJ12_fixAfterInsertion 0 = .ok (.aload_n 1, 1) := dk_43 (dk_at dksJ12_fixAfterInsertion_0 0 rfl rfl)
theorem dJ12_fixAfterInsertion_1 : decode cJ12_fixAfterInsertion 1 = .ok (.iconst 0, 1) := dk_3 (dk_at dksJ12_fixAfterInsertion_0 1 rfl rfl)
theorem dJ12_fixAfterInsertion_2 : decode cJ12_fixAfterInsertion 2 = .ok (.putfield 290, 3) := dk_181 1 34 (dk_at dksJ12_fixAfterInsertion_0 2 rfl rfl)
theorem dJ12_fixAfterInsertion_5 : decode cJ12_fixAfterInsertion 5 = .ok (.aload_n 1, 1) := dk_43 (dk_at dksJ12_fixAfterInsertion_0 5 rfl rfl)
theorem dJ12_fixAfterInsertion_6 : decode cJ12_fixAfterInsertion 6 = .ok (.ifnull 252, 3) := dk_198 0 252 (dk_at dksJ12_fixAfterInsertion_0 6 rfl rfl)
theorem dJ12_fixAfterInsertion_9 : decode cJ12_fixAfterInsertion 9 = .ok (.aload_n 1, 1) := dk_43 (dk_at dksJ12_fixAfterInsertion_0 9 rfl rfl)
theorem dJ12_fixAfterInsertion_10 : decode cJ12_fixAfterInsertion 10 = .ok (.aload_n 0, 1) := dk_42 (dk_at dksJ12_fixAfterInsertion_0 10 rfl rfl)
theorem dJ12_fixAfterInsertion_11 : decode cJ12_fixAfterInsertion 11 = .ok (.getfield 101, 3) := dk_180 0 101 (dk_at dksJ12_fixAfterInsertion_0 11 rfl rfl)
theorem dJ12_fixAfterInsertion_14 : decode cJ12_fixAfterInsertion 14 = .ok (.if_acmp .eq 244, 3) := dk_165 0 244 (dk_at dksJ12_fixAfterInsertion_0 14 rfl rfl)
theorem dJ12_fixAfterInsertion_17 : decode cJ12_fixAfterInsertion 17 = .ok (.aload_n 1, 1) := dk_43 (dk_at dksJ12_fixAfterInsertion_0 17 rfl rfl)
theorem dJ12_fixAfterInsertion_18 : decode cJ12_fixAfterInsertion 18 = .ok (.getfield 124, 3) := dk_180 0 124 (dk_at dksJ12_fixAfterInsertion_0 18 rfl rfl)
theorem dJ12_fixAfterInsertion_21 : decode cJ12_fixAfterInsertion 21 = .ok (.getfield 290, 3) := dk_180 1 34 (dk_at dksJ12_fixAfterInsertion_0 21 rfl rfl)
theorem dJ12_fixAfterInsertion_24 : decode cJ12_fixAfterInsertion 24 = .ok (.ifCond .ne 234, 3) := dk_154 0 234 (dk_at dksJ12_fixAfterInsertion_1 0 rfl rfl)
theorem dJ12_fixAfterInsertion_27 : decode cJ12_fixAfterInsertion 27 = .ok (.aload_n 1, 1) := dk_43 (dk_at dksJ12_fixAfterInsertion_1 3 rfl rfl)
theorem dJ12_fixAfterInsertion_28 : decode cJ12_fixAfterInsertion 28 = .ok (.invokestatic 294, 3) := dk_184 1 38 (dk_at dksJ12_fixAfterInsertion_1 4 rfl rfl)
theorem dJ12_fixAfterInsertion_31 : decode cJ12_fixAfterInsertion 31 = .ok (.aload_n 1, 1) := dk_43 (dk_at dksJ12_fixAfterInsertion_1 7 rfl rfl)
theorem dJ12_fixAfterInsertion_32 : decode cJ12_fixAfterInsertion 32 = .ok (.invokestatic 294, 3) := dk_184 1 38 (dk_at dksJ12_fixAfterInsertion_1 8 rfl rfl)
theorem dJ12_fixAfterInsertion_35 : decode cJ12_fixAfterInsertion 35 = .ok (.invokestatic 294, 3) := dk_184 1 38 (dk_at dksJ12_fixAfterInsertion_1 11 rfl rfl)
theorem dJ12_fixAfterInsertion_38 : decode cJ12_fixAfterInsertion 38 = .ok (.invokestatic 297, 3) := dk_184 1 41 (dk_at dksJ12_fixAfterInsertion_1 14 rfl rfl)
theorem dJ12_fixAfterInsertion_41 : decode cJ12_fixAfterInsertion 41 = .ok (.if_acmp .ne 110, 3) := dk_166 0 110 (dk_at dksJ12_fixAfterInsertion_1 17 rfl rfl)
theorem dJ12_fixAfterInsertion_44 : decode cJ12_fixAfterInsertion 44 = .ok (.aload_n 1, 1) := dk_43 (dk_at dksJ12_fixAfterInsertion_1 20 rfl rfl)
theorem dJ12_fixAfterInsertion_45 : decode cJ12_fixAfterInsertion 45 = .ok (.invokestatic 294, 3) := dk_184 1 38 (dk_at dksJ12_fixAfterInsertion_1 21 rfl rfl)
theorem dJ12_fixAfterInsertion_48 : decode cJ12_fixAfterInsertion 48 = .ok (.invokestatic 294, 3) := dk_184 1 38 (dk_at dksJ12_fixAfterInsertion_2 0 rfl rfl)
theorem dJ12_fixAfterInsertion_51 : decode cJ12_fixAfterInsertion 51 = .ok (.invokestatic 300, 3) := dk_184 1 44 (dk_at dksJ12_fixAfterInsertion_2 3 rfl rfl)
theorem dJ12_fixAfterInsertion_54 : decode cJ12_fixAfterInsertion 54 = .ok (.astore_n 2, 1) := dk_77 (dk_at dksJ12_fixAfterInsertion_2 6 rfl rfl)
theorem dJ12_fixAfterInsertion_55 : decode cJ12_fixAfterInsertion 55 = .ok (.aload_n 2, 1) := dk_44 (dk_at dksJ12_fixAfterInsertion_2 7 rfl rfl)
theorem dJ12_fixAfterInsertion_56 : decode cJ12_fixAfterInsertion 56 = .ok (.invokestatic 303, 3) := dk_184 1 47 (dk_at dksJ12_fixAfterInsertion_2 8 rfl rfl)
theorem dJ12_fixAfterInsertion_59 : decode cJ12_fixAfterInsertion 59 = .ok (.ifCond .ne 38, 3) := dk_154 0 38 (dk_at dksJ12_fixAfterInsertion_2 11 rfl rfl)
theorem dJ12_fixAfterInsertion_62 : decode cJ12_fixAfterInsertion 62 = .ok (.aload_n 1, 1) := dk_43 (dk_at dksJ12_fixAfterInsertion_2 14 rfl rfl)
theorem dJ12_fixAfterInsertion_63 : decode cJ12_fixAfterInsertion 63 = .ok (.invokestatic 294, 3) := dk_184 1 38 (dk_at dksJ12_fixAfterInsertion_2 15 rfl rfl)
theorem dJ12_fixAfterInsertion_66 : decode cJ12_fixAfterInsertion 66 = .ok (.iconst 1, 1) := dk_4 (dk_at dksJ12_fixAfterInsertion_2 18 rfl rfl)
theorem dJ12_fixAfterInsertion_67 : decode cJ12_fixAfterInsertion 67 = .ok (.invokestatic 307, 3) := dk_184 1 51 (dk_at dksJ12_fixAfterInsertion_2 19 rfl rfl)
theorem dJ12_fixAfterInsertion_70 : decode cJ12_fixAfterInsertion 70 = .ok (.aload_n 2, 1) := dk_44 (dk_at dksJ12_fixAfterInsertion_2 22 rfl rfl)
theorem dJ12_fixAfterInsertion_71 : decode cJ12_fixAfterInsertion 71 = .ok (.iconst 1, 1) := dk_4 (dk_at dksJ12_fixAfterInsertion_2 23 rfl rfl)
theorem dJ12_fixAfterInsertion_72 : decode cJ12_fixAfterInsertion 72 = .ok (.invokestatic 307, 3) := dk_184 1 51 (dk_at dksJ12_fixAfterInsertion_3 0 rfl rfl)
theorem dJ12_fixAfterInsertion_75 : decode cJ12_fixAfterInsertion 75 = .ok (.aload_n 1, 1) := dk_43 (dk_at dksJ12_fixAfterInsertion_3 3 rfl rfl)
theorem dJ12_fixAfterInsertion_76 : decode cJ12_fixAfterInsertion 76 = .ok (.invokestatic 294, 3) := dk_184 1 38 (dk_at dksJ12_fixAfterInsertion_3 4 rfl rfl)
theorem dJ12_fixAfterInsertion_79 : decode cJ12_fixAfterInsertion 79 = .ok (.invokestatic 294, 3) := dk_184 1 38 (dk_at dksJ12_fixAfterInsertion_3 7 rfl rfl)
theorem dJ12_fixAfterInsertion_82 : decode cJ12_fixAfterInsertion 82 = .ok (.iconst 0, 1) := dk_3 (dk_at dksJ12_fixAfterInsertion_3 10 rfl rfl)
theorem dJ12_fixAfterInsertion_83 : decode cJ12_fixAfterInsertion 83 = .ok (.invokestatic 307, 3) := dk_184 1 51 (dk_at dksJ12_fixAfterInsertion_3 11 rfl rfl)
theorem dJ12_fixAfterInsertion_86 : decode cJ12_fixAfterInsertion 86 = .ok (.aload_n 1, 1) := dk_43 (dk_at dksJ12_fixAfterInsertion_3 14 rfl rfl)
theorem dJ12_fixAfterInsertion_87 : decode cJ12_fixAfterInsertion 87 = .ok (.invokestatic 294, 3) := dk_184 1 38 (dk_at dksJ12_fixAfterInsertion_3 15 rfl rfl)
theorem dJ12_fixAfterInsertion_90 : decode cJ12_fixAfterInsertion 90 = .ok (.invokestatic 294, 3) := dk_184 1 38 (dk_at dksJ12_fixAfterInsertion_3 18 rfl rfl)
theorem dJ12_fixAfterInsertion_93 : decode cJ12_fixAfterInsertion 93 = .ok (.astore_n 1, 1) := dk_76 (dk_at dksJ12_fixAfterInsertion_3 21 rfl rfl)
theorem dJ12_fixAfterInsertion_94 : decode cJ12_fixAfterInsertion 94 = .ok (.goto 54, 3) := dk_167 0 54 (dk_at dksJ12_fixAfterInsertion_4 0 rfl rfl)
theorem dJ12_fixAfterInsertion_97 : decode cJ12_fixAfterInsertion 97 = .ok (.aload_n 1, 1) := dk_43 (dk_at dksJ12_fixAfterInsertion_4 3 rfl rfl)
theorem dJ12_fixAfterInsertion_98 : decode cJ12_fixAfterInsertion 98 = .ok (.aload_n 1, 1) := dk_43 (dk_at dksJ12_fixAfterInsertion_4 4 rfl rfl)
theorem dJ12_fixAfterInsertion_99 : decode cJ12_fixAfterInsertion 99 = .ok (.invokestatic 294, 3) := dk_184 1 38 (dk_at dksJ12_fixAfterInsertion_4 5 rfl rfl)
theorem dJ12_fixAfterInsertion_102 : decode cJ12_fixAfterInsertion 102 = .ok (.invokestatic 300, 3) := dk_184 1 44 (dk_at dksJ12_fixAfterInsertion_4 8 rfl rfl)
theorem dJ12_fixAfterInsertion_105 : decode cJ12_fixAfterInsertion 105 = .ok (.if_acmp .ne 13, 3) := dk_166 0 13 (dk_at dksJ12_fixAfterInsertion_4 11 rfl rfl)
theorem dJ12_fixAfterInsertion_108 : decode cJ12_fixAfterInsertion 108 = .ok (.aload_n 1, 1) := dk_43 (dk_at dksJ12_fixAfterInsertion_4 14 rfl rfl)
theorem dJ12_fixAfterInsertion_109 : decode cJ12_fixAfterInsertion 109 = .ok (.invokestatic 294, 3) := dk_184 1 38 (dk_at dksJ12_fixAfterInsertion_4 15 rfl rfl)
theorem dJ12_fixAfterInsertion_112 : decode cJ12_fixAfterInsertion 112 = .ok (.astore_n 1, 1) := dk_76 (dk_at dksJ12_fixAfterInsertion_4 18 rfl rfl)
theorem dJ12_fixAfterInsertion_113 : decode cJ12_fixAfterInsertion 113 = .ok (.aload_n 0, 1) := dk_42 (dk_at dksJ12_fixAfterInsertion_4 19 rfl rfl)
theorem dJ12_fixAfterInsertion_114 : decode cJ12_fixAfterInsertion 114 = .ok (.aload_n 1, 1) := dk_43 (dk_at dksJ12_fixAfterInsertion_4 20 rfl rfl)
theorem dJ12_fixAfterInsertion_115 : decode cJ12_fixAfterInsertion 115 = .ok (.invokevirtual 311, 3) := dk_182 1 55 (dk_at dksJ12_fixAfterInsertion_4 21 rfl rfl)
theorem dJ12_fixAfterInsertion_118 : decode cJ12_fixAfterInsertion 118 = .ok (.aload_n 1, 1) := dk_43 (dk_at dksJ12_fixAfterInsertion_5 0 rfl rfl)
theorem dJ12_fixAfterInsertion_119 : decode cJ12_fixAfterInsertion 119 = .ok (.invokestatic 294, 3) := dk_184 1 38 (dk_at dksJ12_fixAfterInsertion_5 1 rfl rfl)
theorem dJ12_fixAfterInsertion_122 : decode cJ12_fixAfterInsertion 122 = .ok (.iconst 1, 1) := dk_4 (dk_at dksJ12_fixAfterInsertion_5 4 rfl rfl)
theorem dJ12_fixAfterInsertion_123 : decode cJ12_fixAfterInsertion 123 = .ok (.invokestatic 307, 3) := dk_184 1 51 (dk_at dksJ12_fixAfterInsertion_5 5 rfl rfl)
theorem dJ12_fixAfterInsertion_126 : decode cJ12_fixAfterInsertion 126 = .ok (.aload_n 1, 1) := dk_43 (dk_at dksJ12_fixAfterInsertion_5 8 rfl rfl)
theorem dJ12_fixAfterInsertion_127 : decode cJ12_fixAfterInsertion 127 = .ok (.invokestatic 294, 3) := dk_184 1 38 (dk_at dksJ12_fixAfterInsertion_5 9 rfl rfl)
theorem dJ12_fixAfterInsertion_130 : decode cJ12_fixAfterInsertion 130 = .ok (.invokestatic 294, 3) := dk_184 1 38 (dk_at dksJ12_fixAfterInsertion_5 12 rfl rfl)
theorem dJ12_fixAfterInsertion_133 : decode cJ12_fixAfterInsertion 133 = .ok (.iconst 0, 1) := dk_3 (dk_at dksJ12_fixAfterInsertion_5 15 rfl rfl)
theorem dJ12_fixAfterInsertion_134 : decode cJ12_fixAfterInsertion 134 = .ok (.invokestatic 307, 3) := dk_184 1 51 (dk_at dksJ12_fixAfterInsertion_5 16 rfl rfl)
theorem dJ12_fixAfterInsertion_137 : decode cJ12_fixAfterInsertion 137 = .ok (.aload_n 0, 1) := dk_42 (dk_at dksJ12_fixAfterInsertion_5 19 rfl rfl)
theorem dJ12_fixAfterInsertion_138 : decode cJ12_fixAfterInsertion 138 = .ok (.aload_n 1, 1) := dk_43 (dk_at dksJ12_fixAfterInsertion_5 20 rfl rfl)
theorem dJ12_fixAfterInsertion_139 : decode cJ12_fixAfterInsertion 139 = .ok (.invokestatic 294, 3) := dk_184 1 38 (dk_at dksJ12_fixAfterInsertion_5 21 rfl rfl)
theorem dJ12_fixAfterInsertion_142 : decode cJ12_fixAfterInsertion 142 = .ok (.invokestatic 294, 3) := dk_184 1 38 (dk_at dksJ12_fixAfterInsertion_6 0 rfl rfl)
theorem dJ12_fixAfterInsertion_145 : decode cJ12_fixAfterInsertion 145 = .ok (.invokevirtual 314, 3) := dk_182 1 58 (dk_at dksJ12_fixAfterInsertion_6 3 rfl rfl)
theorem dJ12_fixAfterInsertion_148 : decode cJ12_fixAfterInsertion 148 = .ok (.goto (-143), 3) := dk_167 255 113 (dk_at dksJ12_fixAfterInsertion_6 6 rfl rfl)
theorem dJ12_fixAfterInsertion_151 : decode cJ12_fixAfterInsertion 151 = .ok (.aload_n 1, 1) := dk_43 (dk_at dksJ12_fixAfterInsertion_6 9 rfl rfl)
theorem dJ12_fixAfterInsertion_152 : decode cJ12_fixAfterInsertion 152 = .ok (.invokestatic 294, 3) := dk_184 1 38 (dk_at dksJ12_fixAfterInsertion_6 10 rfl rfl)
theorem dJ12_fixAfterInsertion_155 : decode cJ12_fixAfterInsertion 155 = .ok (.invokestatic 294, 3) := dk_184 1 38 (dk_at dksJ12_fixAfterInsertion_6 13 rfl rfl)
theorem dJ12_fixAfterInsertion_158 : decode cJ12_fixAfterInsertion 158 = .ok (.invokestatic 297, 3) := dk_184 1 41 (dk_at dksJ12_fixAfterInsertion_6 16 rfl rfl)
theorem dJ12_fixAfterInsertion_161 : decode cJ12_fixAfterInsertion 161 = .ok (.astore_n 2, 1) := dk_77 (dk_at dksJ12_fixAfterInsertion_6 19 rfl rfl)
theorem dJ12_fixAfterInsertion_162 : decode cJ12_fixAfterInsertion 162 = .ok (.aload_n 2, 1) := dk_44 (dk_at dksJ12_fixAfterInsertion_6 20 rfl rfl)
theorem dJ12_fixAfterInsertion_163 : decode cJ12_fixAfterInsertion 163 = .ok (.invokestatic 303, 3) := dk_184 1 47 (dk_at dksJ12_fixAfterInsertion_6 21 rfl rfl)
theorem dJ12_fixAfterInsertion_166 : decode cJ12_fixAfterInsertion 166 = .ok (.ifCond .ne 38, 3) := dk_154 0 38 (dk_at dksJ12_fixAfterInsertion_7 0 rfl rfl)
theorem dJ12_fixAfterInsertion_169 : decode cJ12_fixAfterInsertion 169 = .ok (.aload_n 1, 1) := dk_43 (dk_at dksJ12_fixAfterInsertion_7 3 rfl rfl)
theorem dJ12_fixAfterInsertion_170 : decode cJ12_fixAfterInsertion 170 = .ok (.invokestatic 294, 3) := dk_184 1 38 (dk_at dksJ12_fixAfterInsertion_7 4 rfl rfl)
theorem dJ12_fixAfterInsertion_173 : decode cJ12_fixAfterInsertion 173 = .ok (.iconst 1, 1) := dk_4 (dk_at dksJ12_fixAfterInsertion_7 7 rfl rfl)
theorem dJ12_fixAfterInsertion_174 : decode cJ12_fixAfterInsertion 174 = .ok (.invokestatic 307, 3) := dk_184 1 51 (dk_at dksJ12_fixAfterInsertion_7 8 rfl rfl)
theorem dJ12_fixAfterInsertion_177 : decode cJ12_fixAfterInsertion 177 = .ok (.aload_n 2, 1) := dk_44 (dk_at dksJ12_fixAfterInsertion_7 11 rfl rfl)
theorem dJ12_fixAfterInsertion_178 : decode cJ12_fixAfterInsertion 178 = .ok (.iconst 1, 1) := dk_4 (dk_at dksJ12_fixAfterInsertion_7 12 rfl rfl)
theorem dJ12_fixAfterInsertion_179 : decode cJ12_fixAfterInsertion 179 = .ok (.invokestatic 307, 3) := dk_184 1 51 (dk_at dksJ12_fixAfterInsertion_7 13 rfl rfl)
theorem dJ12_fixAfterInsertion_182 : decode cJ12_fixAfterInsertion 182 = .ok (.aload_n 1, 1) := dk_43 (dk_at dksJ12_fixAfterInsertion_7 16 rfl rfl)
theorem dJ12_fixAfterInsertion_183 : decode cJ12_fixAfterInsertion 183 = .ok (.invokestatic 294, 3) := dk_184 1 38 (dk_at dksJ12_fixAfterInsertion_7 17 rfl rfl)
theorem dJ12_fixAfterInsertion_186 : decode cJ12_fixAfterInsertion 186 = .ok (.invokestatic 294, 3) := dk_184 1 38 (dk_at dksJ12_fixAfterInsertion_7 20 rfl rfl)
theorem dJ12_fixAfterInsertion_189 : decode cJ12_fixAfterInsertion 189 = .ok (.iconst 0, 1) := dk_3 (dk_at dksJ12_fixAfterInsertion_7 23 rfl rfl)
theorem dJ12_fixAfterInsertion_190 : decode cJ12_fixAfterInsertion 190 = .ok (.invokestatic 307, 3) := dk_184 1 51 (dk_at dksJ12_fixAfterInsertion_8 0 rfl rfl)
theorem dJ12_fixAfterInsertion_193 : decode cJ12_fixAfterInsertion 193 = .ok (.aload_n 1, 1) := dk_43 (dk_at dksJ12_fixAfterInsertion_8 3 rfl rfl)
theorem dJ12_fixAfterInsertion_194 : decode cJ12_fixAfterInsertion 194 = .ok (.invokestatic 294, 3) := dk_184 1 38 (dk_at dksJ12_fixAfterInsertion_8 4 rfl rfl)
theorem dJ12_fixAfterInsertion_197 : decode cJ12_fixAfterInsertion 197 = .ok (.invokestatic 294, 3) := dk_184 1 38 (dk_at dksJ12_fixAfterInsertion_8 7 rfl rfl)
theorem dJ12_fixAfterInsertion_200 : decode cJ12_fixAfterInsertion 200 = .ok (.astore_n 1, 1) := dk_76 (dk_at dksJ12_fixAfterInsertion_8 10 rfl rfl)
theorem dJ12_fixAfterInsertion_201 : decode cJ12_fixAfterInsertion 201 = .ok (.goto 54, 3) := dk_167 0 54 (dk_at dksJ12_fixAfterInsertion_8 11 rfl rfl)
theorem dJ12_fixAfterInsertion_204 : decode cJ12_fixAfterInsertion 204 = .ok (.aload_n 1, 1) := dk_43 (dk_at dksJ12_fixAfterInsertion_8 14 rfl rfl)
theorem dJ12_fixAfterInsertion_205 : decode cJ12_fixAfterInsertion 205 = .ok (.aload_n 1, 1) := dk_43 (dk_at dksJ12_fixAfterInsertion_8 15 rfl rfl)
theorem dJ12_fixAfterInsertion_206 : decode cJ12_fixAfterInsertion 206 = .ok (.invokestatic 294, 3) := dk_184 1 38 (dk_at dksJ12_fixAfterInsertion_8 16 rfl rfl)
theorem dJ12_fixAfterInsertion_209 : decode cJ12_fixAfterInsertion 209 = .ok (.invokestatic 297, 3) := dk_184 1 41 (dk_at dksJ12_fixAfterInsertion_8 19 rfl rfl)
theorem dJ12_fixAfterInsertion_212 : decode cJ12_fixAfterInsertion 212 = .ok (.if_acmp .ne 13, 3) := dk_166 0 13 (dk_at dksJ12_fixAfterInsertion_9 0 rfl rfl)
theorem dJ12_fixAfterInsertion_215 : decode cJ12_fixAfterInsertion 215 = .ok (.aload_n 1, 1) := dk_43 (dk_at dksJ12_fixAfterInsertion_9 3 rfl rfl)
theorem dJ12_fixAfterInsertion_216 : decode cJ12_fixAfterInsertion 216 = .ok (.invokestatic 294, 3) := dk_184 1 38 (dk_at dksJ12_fixAfterInsertion_9 4 rfl rfl)
theorem dJ12_fixAfterInsertion_219 : decode cJ12_fixAfterInsertion 219 = .ok (.astore_n 1, 1) := dk_76 (dk_at dksJ12_fixAfterInsertion_9 7 rfl rfl)
theorem dJ12_fixAfterInsertion_220 : decode cJ12_fixAfterInsertion 220 = .ok (.aload_n 0, 1) := dk_42 (dk_at dksJ12_fixAfterInsertion_9 8 rfl rfl)
theorem dJ12_fixAfterInsertion_221 : decode cJ12_fixAfterInsertion 221 = .ok (.aload_n 1, 1) := dk_43 (dk_at dksJ12_fixAfterInsertion_9 9 rfl rfl)
theorem dJ12_fixAfterInsertion_222 : decode cJ12_fixAfterInsertion 222 = .ok (.invokevirtual 314, 3) := dk_182 1 58 (dk_at dksJ12_fixAfterInsertion_9 10 rfl rfl)
theorem dJ12_fixAfterInsertion_225 : decode cJ12_fixAfterInsertion 225 = .ok (.aload_n 1, 1) := dk_43 (dk_at dksJ12_fixAfterInsertion_9 13 rfl rfl)
theorem dJ12_fixAfterInsertion_226 : decode cJ12_fixAfterInsertion 226 = .ok (.invokestatic 294, 3) := dk_184 1 38 (dk_at dksJ12_fixAfterInsertion_9 14 rfl rfl)
theorem dJ12_fixAfterInsertion_229 : decode cJ12_fixAfterInsertion 229 = .ok (.iconst 1, 1) := dk_4 (dk_at dksJ12_fixAfterInsertion_9 17 rfl rfl)
theorem dJ12_fixAfterInsertion_230 : decode cJ12_fixAfterInsertion 230 = .ok (.invokestatic 307, 3) := dk_184 1 51 (dk_at dksJ12_fixAfterInsertion_9 18 rfl rfl)
theorem dJ12_fixAfterInsertion_233 : decode cJ12_fixAfterInsertion 233 = .ok (.aload_n 1, 1) := dk_43 (dk_at dksJ12_fixAfterInsertion_9 21 rfl rfl)
theorem dJ12_fixAfterInsertion_234 : decode cJ12_fixAfterInsertion 234 = .ok (.invokestatic 294, 3) := dk_184 1 38 (dk_at dksJ12_fixAfterInsertion_10 0 rfl rfl)
theorem dJ12_fixAfterInsertion_237 : decode cJ12_fixAfterInsertion 237 = .ok (.invokestatic 294, 3) := dk_184 1 38 (dk_at dksJ12_fixAfterInsertion_10 3 rfl rfl)
theorem dJ12_fixAfterInsertion_240 : decode cJ12_fixAfterInsertion 240 = .ok (.iconst 0, 1) := dk_3 (dk_at dksJ12_fixAfterInsertion_10 6 rfl rfl)
theorem dJ12_fixAfterInsertion_241 : decode cJ12_fixAfterInsertion 241 = .ok (.invokestatic 307, 3) := dk_184 1 51 (dk_at dksJ12_fixAfterInsertion_10 7 rfl rfl)
theorem dJ12_fixAfterInsertion_244 : decode cJ12_fixAfterInsertion 244 = .ok (.aload_n 0, 1) := dk_42 (dk_at dksJ12_fixAfterInsertion_10 10 rfl rfl)
theorem dJ12_fixAfterInsertion_245 : decode cJ12_fixAfterInsertion 245 = .ok (.aload_n 1, 1) := dk_43 (dk_at dksJ12_fixAfterInsertion_10 11 rfl rfl)
theorem dJ12_fixAfterInsertion_246 : decode cJ12_fixAfterInsertion 246 = .ok (.invokestatic 294, 3) := dk_184 1 38 (dk_at dksJ12_fixAfterInsertion_10 12 rfl rfl)
theorem dJ12_fixAfterInsertion_249 : decode cJ12_fixAfterInsertion 249 = .ok (.invokestatic 294, 3) := dk_184 1 38 (dk_at dksJ12_fixAfterInsertion_10 15 rfl rfl)
theorem dJ12_fixAfterInsertion_252 : decode cJ12_fixAfterInsertion 252 = .ok (.invokevirtual 311, 3) := dk_182 1 55 (dk_at dksJ12_fixAfterInsertion_10 18 rfl rfl)
theorem dJ12_fixAfterInsertion_255 : decode cJ12_fixAfterInsertion 255 = .ok (.goto (-250), 3) := dk_167 255 6 (dk_at dksJ12_fixAfterInsertion_10 21 rfl rfl)
theorem dJ12_fixAfterInsertion_258 : decode cJ12_fixAfterInsertion 258 = .ok (.aload_n 0, 1) := dk_42 (dk_at dksJ12_fixAfterInsertion_11 0 rfl rfl)
theorem dJ12_fixAfterInsertion_259 : decode cJ12_fixAfterInsertion 259 = .ok (.getfield 101, 3) := dk_180 0 101 (dk_at dksJ12_fixAfterInsertion_11 1 rfl rfl)
theorem dJ12_fixAfterInsertion_262 : decode cJ12_fixAfterInsertion 262 = .ok (.iconst 1, 1) := dk_4 (dk_at dksJ12_fixAfterInsertion_11 4 rfl rfl)
theorem dJ12_fixAfterInsertion_263 : decode cJ12_fixAfterInsertion 263 = .ok (.putfield 290, 3) := dk_181 1 34 (dk_at dksJ12_fixAfterInsertion_11 5 rfl rfl)
theorem dJ12_fixAfterInsertion_266 : decode cJ12_fixAfterInsertion 266 = .ok (.return_, 1) := dk_177 (dk_at dksJ12_fixAfterInsertion_11 8 rfl rfl)
abbrev cJ12_parentOf : ByteArray := prog_77_method_77_code
def yJ12_parentOf : MethodName := ⟨RJ12, "parentOf", "(Ljava/util/TreeMap$Entry;)Ljava/util/TreeMap$Entry;"⟩
def dkwJ12_parentOf_0 : List UInt8 := [42, 199, 0, 7, 1, 167, 0, 7, 42, 180, 0, 124, 176]
abbrev dktJ12_parentOf_0 : List UInt8 := dkwJ12_parentOf_0 ++ []
theorem dksJ12_parentOf_0 : cJ12_parentOf.data.toList.drop 0 = dktJ12_parentOf_0 := by decide +kernel
theorem dJ12_parentOf_0 : decode cJ12_parentOf 0 = .ok (.aload_n 0, 1) := dk_42 (dk_at dksJ12_parentOf_0 0 rfl rfl)
theorem dJ12_parentOf_1 : decode cJ12_parentOf 1 = .ok (.ifnonnull 7, 3) := dk_199 0 7 (dk_at dksJ12_parentOf_0 1 rfl rfl)
theorem dJ12_parentOf_4 : decode cJ12_parentOf 4 = .ok (.aconst_null, 1) := dk_1 (dk_at dksJ12_parentOf_0 4 rfl rfl)
theorem dJ12_parentOf_5 : decode cJ12_parentOf 5 = .ok (.goto 7, 3) := dk_167 0 7 (dk_at dksJ12_parentOf_0 5 rfl rfl)
theorem dJ12_parentOf_8 : decode cJ12_parentOf 8 = .ok (.aload_n 0, 1) := dk_42 (dk_at dksJ12_parentOf_0 8 rfl rfl)
theorem dJ12_parentOf_9 : decode cJ12_parentOf 9 = .ok (.getfield 124, 3) := dk_180 0 124 (dk_at dksJ12_parentOf_0 9 rfl rfl)
theorem dJ12_parentOf_12 : decode cJ12_parentOf 12 = .ok (.areturn, 1) := dk_176 (dk_at dksJ12_parentOf_0 12 rfl rfl)
abbrev cJ12_leftOf : ByteArray := prog_77_method_79_code
def yJ12_leftOf : MethodName := ⟨RJ12, "leftOf", "(Ljava/util/TreeMap$Entry;)Ljava/util/TreeMap$Entry;"⟩
def dkwJ12_leftOf_0 : List UInt8 := [42, 199, 0, 7, 1, 167, 0, 7, 42, 180, 0, 111, 176]
abbrev dktJ12_leftOf_0 : List UInt8 := dkwJ12_leftOf_0 ++ []
theorem dksJ12_leftOf_0 : cJ12_leftOf.data.toList.drop 0 = dktJ12_leftOf_0 := by decide +kernel
theorem dJ12_leftOf_0 : decode cJ12_leftOf 0 = .ok (.aload_n 0, 1) := dk_42 (dk_at dksJ12_leftOf_0 0 rfl rfl)
theorem dJ12_leftOf_1 : decode cJ12_leftOf 1 = .ok (.ifnonnull 7, 3) := dk_199 0 7 (dk_at dksJ12_leftOf_0 1 rfl rfl)
theorem dJ12_leftOf_4 : decode cJ12_leftOf 4 = .ok (.aconst_null, 1) := dk_1 (dk_at dksJ12_leftOf_0 4 rfl rfl)
theorem dJ12_leftOf_5 : decode cJ12_leftOf 5 = .ok (.goto 7, 3) := dk_167 0 7 (dk_at dksJ12_leftOf_0 5 rfl rfl)
theorem dJ12_leftOf_8 : decode cJ12_leftOf 8 = .ok (.aload_n 0, 1) := dk_42 (dk_at dksJ12_leftOf_0 8 rfl rfl)
theorem dJ12_leftOf_9 : decode cJ12_leftOf 9 = .ok (.getfield 111, 3) := dk_180 0 111 (dk_at dksJ12_leftOf_0 9 rfl rfl)
theorem dJ12_leftOf_12 : decode cJ12_leftOf 12 = .ok (.areturn, 1) := dk_176 (dk_at dksJ12_leftOf_0 12 rfl rfl)
abbrev cJ12_rightOf : ByteArray := prog_77_method_80_code
def yJ12_rightOf : MethodName := ⟨RJ12, "rightOf", "(Ljava/util/TreeMap$Entry;)Ljava/util/TreeMap$Entry;"⟩
def dkwJ12_rightOf_0 : List UInt8 := [42, 199, 0, 7, 1, 167, 0, 7, 42, 180, 0, 114, 176]
abbrev dktJ12_rightOf_0 : List UInt8 := dkwJ12_rightOf_0 ++ []
theorem dksJ12_rightOf_0 : cJ12_rightOf.data.toList.drop 0 = dktJ12_rightOf_0 := by decide +kernel
theorem dJ12_rightOf_0 : decode cJ12_rightOf 0 = .ok (.aload_n 0, 1) := dk_42 (dk_at dksJ12_rightOf_0 0 rfl rfl)
theorem dJ12_rightOf_1 : decode cJ12_rightOf 1 = .ok (.ifnonnull 7, 3) := dk_199 0 7 (dk_at dksJ12_rightOf_0 1 rfl rfl)
theorem dJ12_rightOf_4 : decode cJ12_rightOf 4 = .ok (.aconst_null, 1) := dk_1 (dk_at dksJ12_rightOf_0 4 rfl rfl)
theorem dJ12_rightOf_5 : decode cJ12_rightOf 5 = .ok (.goto 7, 3) := dk_167 0 7 (dk_at dksJ12_rightOf_0 5 rfl rfl)
theorem dJ12_rightOf_8 : decode cJ12_rightOf 8 = .ok (.aload_n 0, 1) := dk_42 (dk_at dksJ12_rightOf_0 8 rfl rfl)
theorem dJ12_rightOf_9 : decode cJ12_rightOf 9 = .ok (.getfield 114, 3) := dk_180 0 114 (dk_at dksJ12_rightOf_0 9 rfl rfl)
theorem dJ12_rightOf_12 : decode cJ12_rightOf 12 = .ok (.areturn, 1) := dk_176 (dk_at dksJ12_rightOf_0 12 rfl rfl)
abbrev cJ12_colorOf : ByteArray := prog_77_method_76_code
def yJ12_colorOf : MethodName := ⟨RJ12, "colorOf", "(Ljava/util/TreeMap$Entry;)Z"⟩
def dkwJ12_colorOf_0 : List UInt8 := [42, 199, 0, 7, 4, 167, 0, 7, 42, 180, 1, 34, 172]
abbrev dktJ12_colorOf_0 : List UInt8 := dkwJ12_colorOf_0 ++ []
theorem dksJ12_colorOf_0 : cJ12_colorOf.data.toList.drop 0 = dktJ12_colorOf_0 := by decide +kernel
theorem dJ12_colorOf_0 : decode cJ12_colorOf 0 = .ok (.aload_n 0, 1) := dk_42 (dk_at dksJ12_colorOf_0 0 rfl rfl)
theorem dJ12_colorOf_1 : decode cJ12_colorOf 1 = .ok (.ifnonnull 7, 3) := dk_199 0 7 (dk_at dksJ12_colorOf_0 1 rfl rfl)
theorem dJ12_colorOf_4 : decode cJ12_colorOf 4 = .ok (.iconst 1, 1) := dk_4 (dk_at dksJ12_colorOf_0 4 rfl rfl)
theorem dJ12_colorOf_5 : decode cJ12_colorOf 5 = .ok (.goto 7, 3) := dk_167 0 7 (dk_at dksJ12_colorOf_0 5 rfl rfl)
theorem dJ12_colorOf_8 : decode cJ12_colorOf 8 = .ok (.aload_n 0, 1) := dk_42 (dk_at dksJ12_colorOf_0 8 rfl rfl)
theorem dJ12_colorOf_9 : decode cJ12_colorOf 9 = .ok (.getfield 290, 3) := dk_180 1 34 (dk_at dksJ12_colorOf_0 9 rfl rfl)
theorem dJ12_colorOf_12 : decode cJ12_colorOf 12 = .ok (.ireturn, 1) := dk_172 (dk_at dksJ12_colorOf_0 12 rfl rfl)
abbrev cJ12_setColor : ByteArray := prog_77_method_78_code
def yJ12_setColor : MethodName := ⟨RJ12, "setColor", "(Ljava/util/TreeMap$Entry;Z)V"⟩
def dkwJ12_setColor_0 : List UInt8 := [42, 198, 0, 8, 42, 27, 181, 1, 34, 177]
abbrev dktJ12_setColor_0 : List UInt8 := dkwJ12_setColor_0 ++ []
theorem dksJ12_setColor_0 : cJ12_setColor.data.toList.drop 0 = dktJ12_setColor_0 := by decide +kernel
theorem dJ12_setColor_0 : decode cJ12_setColor 0 = .ok (.aload_n 0, 1) := dk_42 (dk_at dksJ12_setColor_0 0 rfl rfl)
theorem dJ12_setColor_1 : decode cJ12_setColor 1 = .ok (.ifnull 8, 3) := dk_198 0 8 (dk_at dksJ12_setColor_0 1 rfl rfl)
theorem dJ12_setColor_4 : decode cJ12_setColor 4 = .ok (.aload_n 0, 1) := dk_42 (dk_at dksJ12_setColor_0 4 rfl rfl)
theorem dJ12_setColor_5 : decode cJ12_setColor 5 = .ok (.iload_n 1, 1) := dk_27 (dk_at dksJ12_setColor_0 5 rfl rfl)
theorem dJ12_setColor_6 : decode cJ12_setColor 6 = .ok (.putfield 290, 3) := dk_181 1 34 (dk_at dksJ12_setColor_0 6 rfl rfl)
theorem dJ12_setColor_9 : decode cJ12_setColor 9 = .ok (.return_, 1) := dk_177 (dk_at dksJ12_setColor_0 9 rfl rfl)
abbrev cJ12_rotateLeft : ByteArray := prog_77_method_81_code
def yJ12_rotateLeft : MethodName := ⟨RJ12, "rotateLeft", "(Ljava/util/TreeMap$Entry;)V"⟩
def dkwJ12_rotateLeft_4 : List UInt8 := [177]
abbrev dktJ12_rotateLeft_4 : List UInt8 := dkwJ12_rotateLeft_4 ++ []
def dkwJ12_rotateLeft_3 : List UInt8 := [181, 0, 111, 167, 0, 11, 43, 180, 0, 124, 44, 181, 0, 114, 44, 43, 181, 0, 111, 43, 44, 181, 0, 124]
abbrev dktJ12_rotateLeft_3 : List UInt8 := dkwJ12_rotateLeft_3 ++ dktJ12_rotateLeft_4
def dkwJ12_rotateLeft_2 : List UInt8 := [44, 181, 0, 101, 167, 0, 33, 43, 180, 0, 124, 180, 0, 111, 43, 166, 0, 14, 43, 180, 0, 124, 44]
abbrev dktJ12_rotateLeft_2 : List UInt8 := dkwJ12_rotateLeft_2 ++ dktJ12_rotateLeft_3
def dkwJ12_rotateLeft_1 : List UInt8 := [44, 180, 0, 111, 43, 181, 0, 124, 44, 43, 180, 0, 124, 181, 0, 124, 43, 180, 0, 124, 199, 0, 11, 42]
abbrev dktJ12_rotateLeft_1 : List UInt8 := dkwJ12_rotateLeft_1 ++ dktJ12_rotateLeft_2
def dkwJ12_rotateLeft_0 : List UInt8 := [43, 198, 0, 94, 43, 180, 0, 114, 77, 43, 44, 180, 0, 111, 181, 0, 114, 44, 180, 0, 111, 198, 0, 11]
abbrev dktJ12_rotateLeft_0 : List UInt8 := dkwJ12_rotateLeft_0 ++ dktJ12_rotateLeft_1
theorem dksJ12_rotateLeft_0 : cJ12_rotateLeft.data.toList.drop 0 = dktJ12_rotateLeft_0 := by decide +kernel
theorem dksJ12_rotateLeft_1 : cJ12_rotateLeft.data.toList.drop 24 = dktJ12_rotateLeft_1 := dk_seg dksJ12_rotateLeft_0 24 rfl rfl
theorem dksJ12_rotateLeft_2 : cJ12_rotateLeft.data.toList.drop 48 = dktJ12_rotateLeft_2 := dk_seg dksJ12_rotateLeft_1 24 rfl rfl
theorem dksJ12_rotateLeft_3 : cJ12_rotateLeft.data.toList.drop 71 = dktJ12_rotateLeft_3 := dk_seg dksJ12_rotateLeft_2 23 rfl rfl
theorem dksJ12_rotateLeft_4 : cJ12_rotateLeft.data.toList.drop 95 = dktJ12_rotateLeft_4 := dk_seg dksJ12_rotateLeft_3 24 rfl rfl
theorem dJ12_rotateLeft_0 : decode cJ12_rotateLeft 0 = .ok (.aload_n 1, 1) := dk_43 (dk_at dksJ12_rotateLeft_0 0 rfl rfl)
theorem dJ12_rotateLeft_1 : decode cJ12_rotateLeft 1 = .ok (.ifnull 94, 3) := dk_198 0 94 (dk_at dksJ12_rotateLeft_0 1 rfl rfl)
theorem dJ12_rotateLeft_4 : decode cJ12_rotateLeft 4 = .ok (.aload_n 1, 1) := dk_43 (dk_at dksJ12_rotateLeft_0 4 rfl rfl)
theorem dJ12_rotateLeft_5 : decode cJ12_rotateLeft 5 = .ok (.getfield 114, 3) := dk_180 0 114 (dk_at dksJ12_rotateLeft_0 5 rfl rfl)
theorem dJ12_rotateLeft_8 : decode cJ12_rotateLeft 8 = .ok (.astore_n 2, 1) := dk_77 (dk_at dksJ12_rotateLeft_0 8 rfl rfl)
theorem dJ12_rotateLeft_9 : decode cJ12_rotateLeft 9 = .ok (.aload_n 1, 1) := dk_43 (dk_at dksJ12_rotateLeft_0 9 rfl rfl)
theorem dJ12_rotateLeft_10 : decode cJ12_rotateLeft 10 = .ok (.aload_n 2, 1) := dk_44 (dk_at dksJ12_rotateLeft_0 10 rfl rfl)
theorem dJ12_rotateLeft_11 : decode cJ12_rotateLeft 11 = .ok (.getfield 111, 3) := dk_180 0 111 (dk_at dksJ12_rotateLeft_0 11 rfl rfl)
theorem dJ12_rotateLeft_14 : decode cJ12_rotateLeft 14 = .ok (.putfield 114, 3) := dk_181 0 114 (dk_at dksJ12_rotateLeft_0 14 rfl rfl)
theorem dJ12_rotateLeft_17 : decode cJ12_rotateLeft 17 = .ok (.aload_n 2, 1) := dk_44 (dk_at dksJ12_rotateLeft_0 17 rfl rfl)
theorem dJ12_rotateLeft_18 : decode cJ12_rotateLeft 18 = .ok (.getfield 111, 3) := dk_180 0 111 (dk_at dksJ12_rotateLeft_0 18 rfl rfl)
theorem dJ12_rotateLeft_21 : decode cJ12_rotateLeft 21 = .ok (.ifnull 11, 3) := dk_198 0 11 (dk_at dksJ12_rotateLeft_0 21 rfl rfl)
theorem dJ12_rotateLeft_24 : decode cJ12_rotateLeft 24 = .ok (.aload_n 2, 1) := dk_44 (dk_at dksJ12_rotateLeft_1 0 rfl rfl)
theorem dJ12_rotateLeft_25 : decode cJ12_rotateLeft 25 = .ok (.getfield 111, 3) := dk_180 0 111 (dk_at dksJ12_rotateLeft_1 1 rfl rfl)
theorem dJ12_rotateLeft_28 : decode cJ12_rotateLeft 28 = .ok (.aload_n 1, 1) := dk_43 (dk_at dksJ12_rotateLeft_1 4 rfl rfl)
theorem dJ12_rotateLeft_29 : decode cJ12_rotateLeft 29 = .ok (.putfield 124, 3) := dk_181 0 124 (dk_at dksJ12_rotateLeft_1 5 rfl rfl)
theorem dJ12_rotateLeft_32 : decode cJ12_rotateLeft 32 = .ok (.aload_n 2, 1) := dk_44 (dk_at dksJ12_rotateLeft_1 8 rfl rfl)
theorem dJ12_rotateLeft_33 : decode cJ12_rotateLeft 33 = .ok (.aload_n 1, 1) := dk_43 (dk_at dksJ12_rotateLeft_1 9 rfl rfl)
theorem dJ12_rotateLeft_34 : decode cJ12_rotateLeft 34 = .ok (.getfield 124, 3) := dk_180 0 124 (dk_at dksJ12_rotateLeft_1 10 rfl rfl)
theorem dJ12_rotateLeft_37 : decode cJ12_rotateLeft 37 = .ok (.putfield 124, 3) := dk_181 0 124 (dk_at dksJ12_rotateLeft_1 13 rfl rfl)
theorem dJ12_rotateLeft_40 : decode cJ12_rotateLeft 40 = .ok (.aload_n 1, 1) := dk_43 (dk_at dksJ12_rotateLeft_1 16 rfl rfl)
theorem dJ12_rotateLeft_41 : decode cJ12_rotateLeft 41 = .ok (.getfield 124, 3) := dk_180 0 124 (dk_at dksJ12_rotateLeft_1 17 rfl rfl)
theorem dJ12_rotateLeft_44 : decode cJ12_rotateLeft 44 = .ok (.ifnonnull 11, 3) := dk_199 0 11 (dk_at dksJ12_rotateLeft_1 20 rfl rfl)
theorem dJ12_rotateLeft_47 : decode cJ12_rotateLeft 47 = .ok (.aload_n 0, 1) := dk_42 (dk_at dksJ12_rotateLeft_1 23 rfl rfl)
theorem dJ12_rotateLeft_48 : decode cJ12_rotateLeft 48 = .ok (.aload_n 2, 1) := dk_44 (dk_at dksJ12_rotateLeft_2 0 rfl rfl)
theorem dJ12_rotateLeft_49 : decode cJ12_rotateLeft 49 = .ok (.putfield 101, 3) := dk_181 0 101 (dk_at dksJ12_rotateLeft_2 1 rfl rfl)
theorem dJ12_rotateLeft_52 : decode cJ12_rotateLeft 52 = .ok (.goto 33, 3) := dk_167 0 33 (dk_at dksJ12_rotateLeft_2 4 rfl rfl)
theorem dJ12_rotateLeft_55 : decode cJ12_rotateLeft 55 = .ok (.aload_n 1, 1) := dk_43 (dk_at dksJ12_rotateLeft_2 7 rfl rfl)
theorem dJ12_rotateLeft_56 : decode cJ12_rotateLeft 56 = .ok (.getfield 124, 3) := dk_180 0 124 (dk_at dksJ12_rotateLeft_2 8 rfl rfl)
theorem dJ12_rotateLeft_59 : decode cJ12_rotateLeft 59 = .ok (.getfield 111, 3) := dk_180 0 111 (dk_at dksJ12_rotateLeft_2 11 rfl rfl)
theorem dJ12_rotateLeft_62 : decode cJ12_rotateLeft 62 = .ok (.aload_n 1, 1) := dk_43 (dk_at dksJ12_rotateLeft_2 14 rfl rfl)
theorem dJ12_rotateLeft_63 : decode cJ12_rotateLeft 63 = .ok (.if_acmp .ne 14, 3) := dk_166 0 14 (dk_at dksJ12_rotateLeft_2 15 rfl rfl)
theorem dJ12_rotateLeft_66 : decode cJ12_rotateLeft 66 = .ok (.aload_n 1, 1) := dk_43 (dk_at dksJ12_rotateLeft_2 18 rfl rfl)
theorem dJ12_rotateLeft_67 : decode cJ12_rotateLeft 67 = .ok (.getfield 124, 3) := dk_180 0 124 (dk_at dksJ12_rotateLeft_2 19 rfl rfl)
theorem dJ12_rotateLeft_70 : decode cJ12_rotateLeft 70 = .ok (.aload_n 2, 1) := dk_44 (dk_at dksJ12_rotateLeft_2 22 rfl rfl)
theorem dJ12_rotateLeft_71 : decode cJ12_rotateLeft 71 = .ok (.putfield 111, 3) := dk_181 0 111 (dk_at dksJ12_rotateLeft_3 0 rfl rfl)
theorem dJ12_rotateLeft_74 : decode cJ12_rotateLeft 74 = .ok (.goto 11, 3) := dk_167 0 11 (dk_at dksJ12_rotateLeft_3 3 rfl rfl)
theorem dJ12_rotateLeft_77 : decode cJ12_rotateLeft 77 = .ok (.aload_n 1, 1) := dk_43 (dk_at dksJ12_rotateLeft_3 6 rfl rfl)
theorem dJ12_rotateLeft_78 : decode cJ12_rotateLeft 78 = .ok (.getfield 124, 3) := dk_180 0 124 (dk_at dksJ12_rotateLeft_3 7 rfl rfl)
theorem dJ12_rotateLeft_81 : decode cJ12_rotateLeft 81 = .ok (.aload_n 2, 1) := dk_44 (dk_at dksJ12_rotateLeft_3 10 rfl rfl)
theorem dJ12_rotateLeft_82 : decode cJ12_rotateLeft 82 = .ok (.putfield 114, 3) := dk_181 0 114 (dk_at dksJ12_rotateLeft_3 11 rfl rfl)
theorem dJ12_rotateLeft_85 : decode cJ12_rotateLeft 85 = .ok (.aload_n 2, 1) := dk_44 (dk_at dksJ12_rotateLeft_3 14 rfl rfl)
theorem dJ12_rotateLeft_86 : decode cJ12_rotateLeft 86 = .ok (.aload_n 1, 1) := dk_43 (dk_at dksJ12_rotateLeft_3 15 rfl rfl)
theorem dJ12_rotateLeft_87 : decode cJ12_rotateLeft 87 = .ok (.putfield 111, 3) := dk_181 0 111 (dk_at dksJ12_rotateLeft_3 16 rfl rfl)
theorem dJ12_rotateLeft_90 : decode cJ12_rotateLeft 90 = .ok (.aload_n 1, 1) := dk_43 (dk_at dksJ12_rotateLeft_3 19 rfl rfl)
theorem dJ12_rotateLeft_91 : decode cJ12_rotateLeft 91 = .ok (.aload_n 2, 1) := dk_44 (dk_at dksJ12_rotateLeft_3 20 rfl rfl)
theorem dJ12_rotateLeft_92 : decode cJ12_rotateLeft 92 = .ok (.putfield 124, 3) := dk_181 0 124 (dk_at dksJ12_rotateLeft_3 21 rfl rfl)
theorem dJ12_rotateLeft_95 : decode cJ12_rotateLeft 95 = .ok (.return_, 1) := dk_177 (dk_at dksJ12_rotateLeft_4 0 rfl rfl)
abbrev cJ12_rotateRight : ByteArray := prog_77_method_82_code
def yJ12_rotateRight : MethodName := ⟨RJ12, "rotateRight", "(Ljava/util/TreeMap$Entry;)V"⟩
def dkwJ12_rotateRight_4 : List UInt8 := [177]
abbrev dktJ12_rotateRight_4 : List UInt8 := dkwJ12_rotateRight_4 ++ []
def dkwJ12_rotateRight_3 : List UInt8 := [181, 0, 114, 167, 0, 11, 43, 180, 0, 124, 44, 181, 0, 111, 44, 43, 181, 0, 114, 43, 44, 181, 0, 124]
abbrev dktJ12_rotateRight_3 : List UInt8 := dkwJ12_rotateRight_3 ++ dktJ12_rotateRight_4
def dkwJ12_rotateRight_2 : List UInt8 := [44, 181, 0, 101, 167, 0, 33, 43, 180, 0, 124, 180, 0, 114, 43, 166, 0, 14, 43, 180, 0, 124, 44]
abbrev dktJ12_rotateRight_2 : List UInt8 := dkwJ12_rotateRight_2 ++ dktJ12_rotateRight_3
def dkwJ12_rotateRight_1 : List UInt8 := [44, 180, 0, 114, 43, 181, 0, 124, 44, 43, 180, 0, 124, 181, 0, 124, 43, 180, 0, 124, 199, 0, 11, 42]
abbrev dktJ12_rotateRight_1 : List UInt8 := dkwJ12_rotateRight_1 ++ dktJ12_rotateRight_2
def dkwJ12_rotateRight_0 : List UInt8 := [43, 198, 0, 94, 43, 180, 0, 111, 77, 43, 44, 180, 0, 114, 181, 0, 111, 44, 180, 0, 114, 198, 0, 11]
abbrev dktJ12_rotateRight_0 : List UInt8 := dkwJ12_rotateRight_0 ++ dktJ12_rotateRight_1
theorem dksJ12_rotateRight_0 : cJ12_rotateRight.data.toList.drop 0 = dktJ12_rotateRight_0 := by decide +kernel
theorem dksJ12_rotateRight_1 : cJ12_rotateRight.data.toList.drop 24 = dktJ12_rotateRight_1 := dk_seg dksJ12_rotateRight_0 24 rfl rfl
theorem dksJ12_rotateRight_2 : cJ12_rotateRight.data.toList.drop 48 = dktJ12_rotateRight_2 := dk_seg dksJ12_rotateRight_1 24 rfl rfl
theorem dksJ12_rotateRight_3 : cJ12_rotateRight.data.toList.drop 71 = dktJ12_rotateRight_3 := dk_seg dksJ12_rotateRight_2 23 rfl rfl
theorem dksJ12_rotateRight_4 : cJ12_rotateRight.data.toList.drop 95 = dktJ12_rotateRight_4 := dk_seg dksJ12_rotateRight_3 24 rfl rfl
theorem dJ12_rotateRight_0 : decode cJ12_rotateRight 0 = .ok (.aload_n 1, 1) := dk_43 (dk_at dksJ12_rotateRight_0 0 rfl rfl)
theorem dJ12_rotateRight_1 : decode cJ12_rotateRight 1 = .ok (.ifnull 94, 3) := dk_198 0 94 (dk_at dksJ12_rotateRight_0 1 rfl rfl)
theorem dJ12_rotateRight_4 : decode cJ12_rotateRight 4 = .ok (.aload_n 1, 1) := dk_43 (dk_at dksJ12_rotateRight_0 4 rfl rfl)
theorem dJ12_rotateRight_5 : decode cJ12_rotateRight 5 = .ok (.getfield 111, 3) := dk_180 0 111 (dk_at dksJ12_rotateRight_0 5 rfl rfl)
theorem dJ12_rotateRight_8 : decode cJ12_rotateRight 8 = .ok (.astore_n 2, 1) := dk_77 (dk_at dksJ12_rotateRight_0 8 rfl rfl)
theorem dJ12_rotateRight_9 : decode cJ12_rotateRight 9 = .ok (.aload_n 1, 1) := dk_43 (dk_at dksJ12_rotateRight_0 9 rfl rfl)
theorem dJ12_rotateRight_10 : decode cJ12_rotateRight 10 = .ok (.aload_n 2, 1) := dk_44 (dk_at dksJ12_rotateRight_0 10 rfl rfl)
theorem dJ12_rotateRight_11 : decode cJ12_rotateRight 11 = .ok (.getfield 114, 3) := dk_180 0 114 (dk_at dksJ12_rotateRight_0 11 rfl rfl)
theorem dJ12_rotateRight_14 : decode cJ12_rotateRight 14 = .ok (.putfield 111, 3) := dk_181 0 111 (dk_at dksJ12_rotateRight_0 14 rfl rfl)
theorem dJ12_rotateRight_17 : decode cJ12_rotateRight 17 = .ok (.aload_n 2, 1) := dk_44 (dk_at dksJ12_rotateRight_0 17 rfl rfl)
theorem dJ12_rotateRight_18 : decode cJ12_rotateRight 18 = .ok (.getfield 114, 3) := dk_180 0 114 (dk_at dksJ12_rotateRight_0 18 rfl rfl)
theorem dJ12_rotateRight_21 : decode cJ12_rotateRight 21 = .ok (.ifnull 11, 3) := dk_198 0 11 (dk_at dksJ12_rotateRight_0 21 rfl rfl)
theorem dJ12_rotateRight_24 : decode cJ12_rotateRight 24 = .ok (.aload_n 2, 1) := dk_44 (dk_at dksJ12_rotateRight_1 0 rfl rfl)
theorem dJ12_rotateRight_25 : decode cJ12_rotateRight 25 = .ok (.getfield 114, 3) := dk_180 0 114 (dk_at dksJ12_rotateRight_1 1 rfl rfl)
theorem dJ12_rotateRight_28 : decode cJ12_rotateRight 28 = .ok (.aload_n 1, 1) := dk_43 (dk_at dksJ12_rotateRight_1 4 rfl rfl)
theorem dJ12_rotateRight_29 : decode cJ12_rotateRight 29 = .ok (.putfield 124, 3) := dk_181 0 124 (dk_at dksJ12_rotateRight_1 5 rfl rfl)
theorem dJ12_rotateRight_32 : decode cJ12_rotateRight 32 = .ok (.aload_n 2, 1) := dk_44 (dk_at dksJ12_rotateRight_1 8 rfl rfl)
theorem dJ12_rotateRight_33 : decode cJ12_rotateRight 33 = .ok (.aload_n 1, 1) := dk_43 (dk_at dksJ12_rotateRight_1 9 rfl rfl)
theorem dJ12_rotateRight_34 : decode cJ12_rotateRight 34 = .ok (.getfield 124, 3) := dk_180 0 124 (dk_at dksJ12_rotateRight_1 10 rfl rfl)
theorem dJ12_rotateRight_37 : decode cJ12_rotateRight 37 = .ok (.putfield 124, 3) := dk_181 0 124 (dk_at dksJ12_rotateRight_1 13 rfl rfl)
theorem dJ12_rotateRight_40 : decode cJ12_rotateRight 40 = .ok (.aload_n 1, 1) := dk_43 (dk_at dksJ12_rotateRight_1 16 rfl rfl)
theorem dJ12_rotateRight_41 : decode cJ12_rotateRight 41 = .ok (.getfield 124, 3) := dk_180 0 124 (dk_at dksJ12_rotateRight_1 17 rfl rfl)
theorem dJ12_rotateRight_44 : decode cJ12_rotateRight 44 = .ok (.ifnonnull 11, 3) := dk_199 0 11 (dk_at dksJ12_rotateRight_1 20 rfl rfl)
theorem dJ12_rotateRight_47 : decode cJ12_rotateRight 47 = .ok (.aload_n 0, 1) := dk_42 (dk_at dksJ12_rotateRight_1 23 rfl rfl)
theorem dJ12_rotateRight_48 : decode cJ12_rotateRight 48 = .ok (.aload_n 2, 1) := dk_44 (dk_at dksJ12_rotateRight_2 0 rfl rfl)
theorem dJ12_rotateRight_49 : decode cJ12_rotateRight 49 = .ok (.putfield 101, 3) := dk_181 0 101 (dk_at dksJ12_rotateRight_2 1 rfl rfl)
theorem dJ12_rotateRight_52 : decode cJ12_rotateRight 52 = .ok (.goto 33, 3) := dk_167 0 33 (dk_at dksJ12_rotateRight_2 4 rfl rfl)
theorem dJ12_rotateRight_55 : decode cJ12_rotateRight 55 = .ok (.aload_n 1, 1) := dk_43 (dk_at dksJ12_rotateRight_2 7 rfl rfl)
theorem dJ12_rotateRight_56 : decode cJ12_rotateRight 56 = .ok (.getfield 124, 3) := dk_180 0 124 (dk_at dksJ12_rotateRight_2 8 rfl rfl)
theorem dJ12_rotateRight_59 : decode cJ12_rotateRight 59 = .ok (.getfield 114, 3) := dk_180 0 114 (dk_at dksJ12_rotateRight_2 11 rfl rfl)
theorem dJ12_rotateRight_62 : decode cJ12_rotateRight 62 = .ok (.aload_n 1, 1) := dk_43 (dk_at dksJ12_rotateRight_2 14 rfl rfl)
theorem dJ12_rotateRight_63 : decode cJ12_rotateRight 63 = .ok (.if_acmp .ne 14, 3) := dk_166 0 14 (dk_at dksJ12_rotateRight_2 15 rfl rfl)
theorem dJ12_rotateRight_66 : decode cJ12_rotateRight 66 = .ok (.aload_n 1, 1) := dk_43 (dk_at dksJ12_rotateRight_2 18 rfl rfl)
theorem dJ12_rotateRight_67 : decode cJ12_rotateRight 67 = .ok (.getfield 124, 3) := dk_180 0 124 (dk_at dksJ12_rotateRight_2 19 rfl rfl)
theorem dJ12_rotateRight_70 : decode cJ12_rotateRight 70 = .ok (.aload_n 2, 1) := dk_44 (dk_at dksJ12_rotateRight_2 22 rfl rfl)
theorem dJ12_rotateRight_71 : decode cJ12_rotateRight 71 = .ok (.putfield 114, 3) := dk_181 0 114 (dk_at dksJ12_rotateRight_3 0 rfl rfl)
theorem dJ12_rotateRight_74 : decode cJ12_rotateRight 74 = .ok (.goto 11, 3) := dk_167 0 11 (dk_at dksJ12_rotateRight_3 3 rfl rfl)
theorem dJ12_rotateRight_77 : decode cJ12_rotateRight 77 = .ok (.aload_n 1, 1) := dk_43 (dk_at dksJ12_rotateRight_3 6 rfl rfl)
theorem dJ12_rotateRight_78 : decode cJ12_rotateRight 78 = .ok (.getfield 124, 3) := dk_180 0 124 (dk_at dksJ12_rotateRight_3 7 rfl rfl)
theorem dJ12_rotateRight_81 : decode cJ12_rotateRight 81 = .ok (.aload_n 2, 1) := dk_44 (dk_at dksJ12_rotateRight_3 10 rfl rfl)
theorem dJ12_rotateRight_82 : decode cJ12_rotateRight 82 = .ok (.putfield 111, 3) := dk_181 0 111 (dk_at dksJ12_rotateRight_3 11 rfl rfl)
theorem dJ12_rotateRight_85 : decode cJ12_rotateRight 85 = .ok (.aload_n 2, 1) := dk_44 (dk_at dksJ12_rotateRight_3 14 rfl rfl)
theorem dJ12_rotateRight_86 : decode cJ12_rotateRight 86 = .ok (.aload_n 1, 1) := dk_43 (dk_at dksJ12_rotateRight_3 15 rfl rfl)
theorem dJ12_rotateRight_87 : decode cJ12_rotateRight 87 = .ok (.putfield 114, 3) := dk_181 0 114 (dk_at dksJ12_rotateRight_3 16 rfl rfl)
theorem dJ12_rotateRight_90 : decode cJ12_rotateRight 90 = .ok (.aload_n 1, 1) := dk_43 (dk_at dksJ12_rotateRight_3 19 rfl rfl)
theorem dJ12_rotateRight_91 : decode cJ12_rotateRight 91 = .ok (.aload_n 2, 1) := dk_44 (dk_at dksJ12_rotateRight_3 20 rfl rfl)
theorem dJ12_rotateRight_92 : decode cJ12_rotateRight 92 = .ok (.putfield 124, 3) := dk_181 0 124 (dk_at dksJ12_rotateRight_3 21 rfl rfl)
theorem dJ12_rotateRight_95 : decode cJ12_rotateRight 95 = .ok (.return_, 1) := dk_177 (dk_at dksJ12_rotateRight_4 0 rfl rfl)
abbrev cJ12_values : ByteArray := prog_77_method_52_code
def yJ12_values : MethodName := ⟨RJ12, "values", "()Ljava/util/Collection;"⟩
def dkwJ12_values_1 : List UInt8 := [176]
abbrev dktJ12_values_1 : List UInt8 := dkwJ12_values_1 ++ []
def dkwJ12_values_0 : List UInt8 := [42, 180, 0, 233, 76, 43, 199, 0, 17, 187, 0, 237, 89, 42, 183, 0, 239, 76, 42, 43, 181, 0, 233, 43]
abbrev dktJ12_values_0 : List UInt8 := dkwJ12_values_0 ++ dktJ12_values_1
theorem dksJ12_values_0 : cJ12_values.data.toList.drop 0 = dktJ12_values_0 := by decide +kernel
theorem dksJ12_values_1 : cJ12_values.data.toList.drop 24 = dktJ12_values_1 := dk_seg dksJ12_values_0 24 rfl rfl
theorem dJ12_values_0 : decode cJ12_values 0 = .ok (.aload_n 0, 1) := dk_42 (dk_at dksJ12_values_0 0 rfl rfl)
theorem dJ12_values_1 : decode cJ12_values 1 = .ok (.getfield 233, 3) := dk_180 0 233 (dk_at dksJ12_values_0 1 rfl rfl)
theorem dJ12_values_4 : decode cJ12_values 4 = .ok (.astore_n 1, 1) := dk_76 (dk_at dksJ12_values_0 4 rfl rfl)
theorem dJ12_values_5 : decode cJ12_values 5 = .ok (.aload_n 1, 1) := dk_43 (dk_at dksJ12_values_0 5 rfl rfl)
theorem dJ12_values_6 : decode cJ12_values 6 = .ok (.ifnonnull 17, 3) := dk_199 0 17 (dk_at dksJ12_values_0 6 rfl rfl)
theorem dJ12_values_9 : decode cJ12_values 9 = .ok (.new 237, 3) := dk_187 0 237 (dk_at dksJ12_values_0 9 rfl rfl)
theorem dJ12_values_12 : decode cJ12_values 12 = .ok (.dup, 1) := dk_89 (dk_at dksJ12_values_0 12 rfl rfl)
theorem dJ12_values_13 : decode cJ12_values 13 = .ok (.aload_n 0, 1) := dk_42 (dk_at dksJ12_values_0 13 rfl rfl)
theorem dJ12_values_14 : decode cJ12_values 14 = .ok (.invokespecial 239, 3) := dk_183 0 239 (dk_at dksJ12_values_0 14 rfl rfl)
theorem dJ12_values_17 : decode cJ12_values 17 = .ok (.astore_n 1, 1) := dk_76 (dk_at dksJ12_values_0 17 rfl rfl)
theorem dJ12_values_18 : decode cJ12_values 18 = .ok (.aload_n 0, 1) := dk_42 (dk_at dksJ12_values_0 18 rfl rfl)
theorem dJ12_values_19 : decode cJ12_values 19 = .ok (.aload_n 1, 1) := dk_43 (dk_at dksJ12_values_0 19 rfl rfl)
theorem dJ12_values_20 : decode cJ12_values 20 = .ok (.putfield 233, 3) := dk_181 0 233 (dk_at dksJ12_values_0 20 rfl rfl)
theorem dJ12_values_23 : decode cJ12_values 23 = .ok (.aload_n 1, 1) := dk_43 (dk_at dksJ12_values_0 23 rfl rfl)
theorem dJ12_values_24 : decode cJ12_values 24 = .ok (.areturn, 1) := dk_176 (dk_at dksJ12_values_1 0 rfl rfl)
theorem q115 : (Jvm.Cond.initialized "java/util/TreeMap") ∈ lw_all := lw_g (lw_at lw_m1 18 rfl) rfl
theorem q250 : (Jvm.Cond.fieldLink "java/util/TreeMap" (233 : Nat) "java/util/TreeMap" "values" "Ljava/util/Collection;") ∈ lw_all := lw_g (lw_at lw_m1 153 rfl) rfl
theorem q251 : (Jvm.Cond.sameField "java/util/TreeMap" "java/util/AbstractMap" "values" "Ljava/util/Collection;") ∈ lw_all := lw_g (lw_at lw_m1 154 rfl) rfl
theorem q591 : (Jvm.Cond.static ({ cls := "java/util/TreeMap", name := "successor", desc := "(Ljava/util/TreeMap$Entry;)Ljava/util/TreeMap$Entry;" } : Jvm.MethodName)) ∈ lw_all := lw_g (lw_at lw_m3 14 rfl) rfl
theorem q592 : (Jvm.Cond.code ({ cls := "java/util/TreeMap", name := "successor", desc := "(Ljava/util/TreeMap$Entry;)Ljava/util/TreeMap$Entry;" } : Jvm.MethodName) prog_77_method_74_code (3 : Nat) (Option.some (Jvm.ClassFile.FieldType.object "java/util/TreeMap$Entry"))) ∈ lw_all := lw_g (lw_at lw_m3 15 rfl) rfl
theorem q870 : (Jvm.Cond.instanceMethod ({ cls := "java/util/TreeMap", name := "getFirstEntry", desc := "()Ljava/util/TreeMap$Entry;" } : Jvm.MethodName)) ∈ lw_all := lw_g (lw_at lw_m4 53 rfl) rfl
theorem q871 : (Jvm.Cond.selects "java/util/TreeMap" ({ cls := "java/util/TreeMap", name := "getFirstEntry", desc := "()Ljava/util/TreeMap$Entry;" } : Jvm.MethodName) ({ cls := "java/util/TreeMap", name := "getFirstEntry", desc := "()Ljava/util/TreeMap$Entry;" } : Jvm.MethodName)) ∈ lw_all := lw_g (lw_at lw_m4 54 rfl) rfl
theorem q872 : (Jvm.Cond.code ({ cls := "java/util/TreeMap", name := "getFirstEntry", desc := "()Ljava/util/TreeMap$Entry;" } : Jvm.MethodName) prog_77_method_72_code (2 : Nat) (Option.some (Jvm.ClassFile.FieldType.object "java/util/TreeMap$Entry"))) ∈ lw_all := lw_g (lw_at lw_m4 55 rfl) rfl
theorem q1132 : (Jvm.Cond.selects "java/util/TreeMap" ({ cls := "java/lang/Object", name := "getClass", desc := "()Ljava/lang/Class;" } : Jvm.MethodName) ({ cls := "java/lang/Object", name := "getClass", desc := "()Ljava/lang/Class;" } : Jvm.MethodName)) ∈ lw_all := lw_g (lw_at lw_m5 75 rfl) rfl
theorem q1860 : (Jvm.Cond.instanceMethod ({ cls := "java/util/TreeMap", name := "containsValue", desc := "(Ljava/lang/Object;)Z" } : Jvm.MethodName)) ∈ lw_all := lw_g (lw_at lw_m8 83 rfl) rfl
theorem q1861 : (Jvm.Cond.selects "java/util/TreeMap" ({ cls := "java/util/TreeMap", name := "containsValue", desc := "(Ljava/lang/Object;)Z" } : Jvm.MethodName) ({ cls := "java/util/TreeMap", name := "containsValue", desc := "(Ljava/lang/Object;)Z" } : Jvm.MethodName)) ∈ lw_all := lw_g (lw_at lw_m8 84 rfl) rfl
theorem q1862 : (Jvm.Cond.code ({ cls := "java/util/TreeMap", name := "containsValue", desc := "(Ljava/lang/Object;)Z" } : Jvm.MethodName) prog_77_method_7_code (3 : Nat) (Option.some Jvm.ClassFile.FieldType.boolean)) ∈ lw_all := lw_g (lw_at lw_m8 85 rfl) rfl
theorem q1863 : (Jvm.Cond.methodLink "java/util/TreeMap" (54 : Nat) ({ cls := "java/util/TreeMap", name := "getFirstEntry", desc := "()Ljava/util/TreeMap$Entry;" } : Jvm.MethodName)) ∈ lw_all := lw_g (lw_at lw_m8 86 rfl) rfl
theorem q1864 : (Jvm.Cond.methodLink "java/util/TreeMap" (64 : Nat) ({ cls := "java/util/TreeMap", name := "valEquals", desc := "(Ljava/lang/Object;Ljava/lang/Object;)Z" } : Jvm.MethodName)) ∈ lw_all := lw_g (lw_at lw_m8 87 rfl) rfl
theorem q1865 : (Jvm.Cond.static ({ cls := "java/util/TreeMap", name := "valEquals", desc := "(Ljava/lang/Object;Ljava/lang/Object;)Z" } : Jvm.MethodName)) ∈ lw_all := lw_g (lw_at lw_m8 88 rfl) rfl
theorem q1866 : (Jvm.Cond.code ({ cls := "java/util/TreeMap", name := "valEquals", desc := "(Ljava/lang/Object;Ljava/lang/Object;)Z" } : Jvm.MethodName) prog_77_method_68_code (2 : Nat) (Option.some Jvm.ClassFile.FieldType.boolean)) ∈ lw_all := lw_g (lw_at lw_m8 89 rfl) rfl
theorem q1867 : (Jvm.Cond.methodLink "java/util/TreeMap" (277 : Nat) ({ cls := "java/lang/Object", name := "equals", desc := "(Ljava/lang/Object;)Z" } : Jvm.MethodName)) ∈ lw_all := lw_g (lw_at lw_m8 90 rfl) rfl
theorem q1868 : (Jvm.Cond.methodLink "java/util/TreeMap" (68 : Nat) ({ cls := "java/util/TreeMap", name := "successor", desc := "(Ljava/util/TreeMap$Entry;)Ljava/util/TreeMap$Entry;" } : Jvm.MethodName)) ∈ lw_all := lw_g (lw_at lw_m8 91 rfl) rfl
theorem q1897 : (Jvm.Cond.instantiable "java/util/TreeMap" (9 : Nat)) ∈ lw_all := lw_g (lw_at lw_m8 120 rfl) rfl
theorem q1899 : (Jvm.Cond.instanceMethod ({ cls := "java/util/TreeMap", name := "<init>", desc := "()V" } : Jvm.MethodName)) ∈ lw_all := lw_g (lw_at lw_m8 122 rfl) rfl
theorem q1900 : (Jvm.Cond.code ({ cls := "java/util/TreeMap", name := "<init>", desc := "()V" } : Jvm.MethodName) prog_77_method_1_code (1 : Nat) (Option.none : Option Jvm.ClassFile.FieldType)) ∈ lw_all := lw_g (lw_at lw_m8 123 rfl) rfl
theorem q1901 : (Jvm.Cond.methodLink "java/util/TreeMap" (1 : Nat) ({ cls := "java/util/AbstractMap", name := "<init>", desc := "()V" } : Jvm.MethodName)) ∈ lw_all := lw_g (lw_at lw_m8 124 rfl) rfl
theorem q1902 : (Jvm.Cond.fieldLink "java/util/TreeMap" (16 : Nat) "java/util/TreeMap" "comparator" "Ljava/util/Comparator;") ∈ lw_all := lw_g (lw_at lw_m8 125 rfl) rfl
theorem q1903 : (Jvm.Cond.fieldLink "java/util/TreeMap" (101 : Nat) "java/util/TreeMap" "root" "Ljava/util/TreeMap$Entry;") ∈ lw_all := lw_g (lw_at lw_m8 126 rfl) rfl
theorem q1904 : (Jvm.Cond.fieldLink "java/util/TreeMap" (7 : Nat) "java/util/TreeMap" "size" "I") ∈ lw_all := lw_g (lw_at lw_m8 127 rfl) rfl
theorem q1906 : (Jvm.Cond.fieldLink "java/util/TreeMap" (13 : Nat) "java/util/TreeMap" "modCount" "I") ∈ lw_all := lw_g (lw_at lw_m8 129 rfl) rfl
theorem q1907 : (Jvm.Cond.laysFinal "java/util/TreeMap" "java/util/TreeMap" "comparator" "Ljava/util/Comparator;") ∈ lw_all := lw_g (lw_at lw_m8 130 rfl) rfl
theorem q1908 : (Jvm.Cond.soleField "java/util/TreeMap" "comparator") ∈ lw_all := lw_g (lw_at lw_m8 131 rfl) rfl
theorem q1909 : (Jvm.Cond.lays "java/util/TreeMap" "java/util/TreeMap" "root" "Ljava/util/TreeMap$Entry;") ∈ lw_all := lw_g (lw_at lw_m8 132 rfl) rfl
theorem q1910 : (Jvm.Cond.soleField "java/util/TreeMap" "root") ∈ lw_all := lw_g (lw_at lw_m8 133 rfl) rfl
theorem q1911 : (Jvm.Cond.lays "java/util/TreeMap" "java/util/TreeMap" "size" "I") ∈ lw_all := lw_g (lw_at lw_m8 134 rfl) rfl
theorem q1912 : (Jvm.Cond.soleField "java/util/TreeMap" "size") ∈ lw_all := lw_g (lw_at lw_m8 135 rfl) rfl
theorem q1913 : (Jvm.Cond.lays "java/util/TreeMap" "java/util/TreeMap" "modCount" "I") ∈ lw_all := lw_g (lw_at lw_m8 136 rfl) rfl
theorem q1914 : (Jvm.Cond.soleField "java/util/TreeMap" "modCount") ∈ lw_all := lw_g (lw_at lw_m8 137 rfl) rfl
theorem q1915 : (Jvm.Cond.lays "java/util/TreeMap" "java/util/TreeMap" "entrySet" "Ljava/util/TreeMap$EntrySet;") ∈ lw_all := lw_g (lw_at lw_m8 138 rfl) rfl
theorem q1916 : (Jvm.Cond.soleField "java/util/TreeMap" "entrySet") ∈ lw_all := lw_g (lw_at lw_m8 139 rfl) rfl
theorem q1917 : (Jvm.Cond.lays "java/util/TreeMap" "java/util/TreeMap" "navigableKeySet" "Ljava/util/TreeMap$KeySet;") ∈ lw_all := lw_g (lw_at lw_m8 140 rfl) rfl
theorem q1918 : (Jvm.Cond.soleField "java/util/TreeMap" "navigableKeySet") ∈ lw_all := lw_g (lw_at lw_m8 141 rfl) rfl
theorem q1919 : (Jvm.Cond.lays "java/util/TreeMap" "java/util/TreeMap" "descendingMap" "Ljava/util/NavigableMap;") ∈ lw_all := lw_g (lw_at lw_m8 142 rfl) rfl
theorem q1920 : (Jvm.Cond.soleField "java/util/TreeMap" "descendingMap") ∈ lw_all := lw_g (lw_at lw_m8 143 rfl) rfl
theorem q1921 : (Jvm.Cond.lays "java/util/TreeMap" "java/util/AbstractMap" "keySet" "Ljava/util/Set;") ∈ lw_all := lw_g (lw_at lw_m8 144 rfl) rfl
theorem q1922 : (Jvm.Cond.lays "java/util/TreeMap" "java/util/AbstractMap" "values" "Ljava/util/Collection;") ∈ lw_all := lw_g (lw_at lw_m8 145 rfl) rfl
theorem q1923 : (Jvm.Cond.superclass "java/util/TreeMap" "java/util/AbstractMap") ∈ lw_all := lw_g (lw_at lw_m8 146 rfl) rfl
theorem q1945 : (Jvm.Cond.instanceMethod ({ cls := "java/util/TreeMap", name := "put", desc := "(Ljava/lang/Object;Ljava/lang/Object;)Ljava/lang/Object;" } : Jvm.MethodName)) ∈ lw_all := lw_g (lw_at lw_m8 168 rfl) rfl
theorem q1946 : (Jvm.Cond.selects "java/util/TreeMap" ({ cls := "java/util/TreeMap", name := "put", desc := "(Ljava/lang/Object;Ljava/lang/Object;)Ljava/lang/Object;" } : Jvm.MethodName) ({ cls := "java/util/TreeMap", name := "put", desc := "(Ljava/lang/Object;Ljava/lang/Object;)Ljava/lang/Object;" } : Jvm.MethodName)) ∈ lw_all := lw_g (lw_at lw_m8 169 rfl) rfl
theorem q1947 : (Jvm.Cond.code ({ cls := "java/util/TreeMap", name := "put", desc := "(Ljava/lang/Object;Ljava/lang/Object;)Ljava/lang/Object;" } : Jvm.MethodName) prog_77_method_21_code (3 : Nat) (Option.some (Jvm.ClassFile.FieldType.object "java/lang/Object"))) ∈ lw_all := lw_g (lw_at lw_m8 170 rfl) rfl
theorem q1948 : (Jvm.Cond.methodLink "java/util/TreeMap" (127 : Nat) ({ cls := "java/util/TreeMap", name := "put", desc := "(Ljava/lang/Object;Ljava/lang/Object;Z)Ljava/lang/Object;" } : Jvm.MethodName)) ∈ lw_all := lw_g (lw_at lw_m8 171 rfl) rfl
theorem q1949 : (Jvm.Cond.privateMethod ({ cls := "java/util/TreeMap", name := "put", desc := "(Ljava/lang/Object;Ljava/lang/Object;Z)Ljava/lang/Object;" } : Jvm.MethodName)) ∈ lw_tbl := lw_at lw_m8 172 rfl
theorem q1950 : (Jvm.Cond.instanceMethod ({ cls := "java/util/TreeMap", name := "put", desc := "(Ljava/lang/Object;Ljava/lang/Object;Z)Ljava/lang/Object;" } : Jvm.MethodName)) ∈ lw_all := lw_g (lw_at lw_m8 173 rfl) rfl
theorem q1951 : (Jvm.Cond.code ({ cls := "java/util/TreeMap", name := "put", desc := "(Ljava/lang/Object;Ljava/lang/Object;Z)Ljava/lang/Object;" } : Jvm.MethodName) prog_77_method_31_code (10 : Nat) (Option.some (Jvm.ClassFile.FieldType.object "java/lang/Object"))) ∈ lw_all := lw_g (lw_at lw_m8 174 rfl) rfl
theorem q1952 : (Jvm.Cond.methodLink "java/util/TreeMap" (135 : Nat) ({ cls := "java/util/TreeMap", name := "addEntryToEmptyMap", desc := "(Ljava/lang/Object;Ljava/lang/Object;)V" } : Jvm.MethodName)) ∈ lw_all := lw_g (lw_at lw_m8 175 rfl) rfl
theorem q1953 : (Jvm.Cond.privateMethod ({ cls := "java/util/TreeMap", name := "addEntryToEmptyMap", desc := "(Ljava/lang/Object;Ljava/lang/Object;)V" } : Jvm.MethodName)) ∈ lw_tbl := lw_at lw_m8 176 rfl
theorem q1954 : (Jvm.Cond.instanceMethod ({ cls := "java/util/TreeMap", name := "addEntryToEmptyMap", desc := "(Ljava/lang/Object;Ljava/lang/Object;)V" } : Jvm.MethodName)) ∈ lw_all := lw_g (lw_at lw_m8 177 rfl) rfl
theorem q1955 : (Jvm.Cond.code ({ cls := "java/util/TreeMap", name := "addEntryToEmptyMap", desc := "(Ljava/lang/Object;Ljava/lang/Object;)V" } : Jvm.MethodName) prog_77_method_30_code (3 : Nat) (Option.none : Option Jvm.ClassFile.FieldType)) ∈ lw_all := lw_g (lw_at lw_m8 178 rfl) rfl
theorem q1956 : (Jvm.Cond.methodLink "java/util/TreeMap" (123 : Nat) ({ cls := "java/util/TreeMap", name := "compare", desc := "(Ljava/lang/Object;Ljava/lang/Object;)I" } : Jvm.MethodName)) ∈ lw_all := lw_g (lw_at lw_m8 179 rfl) rfl
theorem q1957 : (Jvm.Cond.instanceMethod ({ cls := "java/util/TreeMap", name := "compare", desc := "(Ljava/lang/Object;Ljava/lang/Object;)I" } : Jvm.MethodName)) ∈ lw_all := lw_g (lw_at lw_m8 180 rfl) rfl
theorem q1958 : (Jvm.Cond.selects "java/util/TreeMap" ({ cls := "java/util/TreeMap", name := "compare", desc := "(Ljava/lang/Object;Ljava/lang/Object;)I" } : Jvm.MethodName) ({ cls := "java/util/TreeMap", name := "compare", desc := "(Ljava/lang/Object;Ljava/lang/Object;)I" } : Jvm.MethodName)) ∈ lw_all := lw_g (lw_at lw_m8 181 rfl) rfl
theorem q1959 : (Jvm.Cond.code ({ cls := "java/util/TreeMap", name := "compare", desc := "(Ljava/lang/Object;Ljava/lang/Object;)I" } : Jvm.MethodName) prog_77_method_67_code (3 : Nat) (Option.some Jvm.ClassFile.FieldType.int)) ∈ lw_all := lw_g (lw_at lw_m8 182 rfl) rfl
theorem q1960 : (Jvm.Cond.classLink "java/util/TreeMap" (99 : Nat) "java/lang/Comparable") ∈ lw_all := lw_g (lw_at lw_m8 183 rfl) rfl
theorem q1961 : (Jvm.Cond.interfaceEntry "java/util/TreeMap" (107 : Nat)) ∈ lw_tbl := lw_at lw_m8 184 rfl
theorem q1962 : (Jvm.Cond.methodLink "java/util/TreeMap" (107 : Nat) ({ cls := "java/lang/Comparable", name := "compareTo", desc := "(Ljava/lang/Object;)I" } : Jvm.MethodName)) ∈ lw_all := lw_g (lw_at lw_m8 185 rfl) rfl
theorem q1963 : (Jvm.Cond.interfaceEntry "java/util/TreeMap" (117 : Nat)) ∈ lw_tbl := lw_at lw_m8 186 rfl
theorem q1964 : (Jvm.Cond.methodLink "java/util/TreeMap" (117 : Nat) ({ cls := "java/util/Comparator", name := "compare", desc := "(Ljava/lang/Object;Ljava/lang/Object;)I" } : Jvm.MethodName)) ∈ lw_all := lw_g (lw_at lw_m8 187 rfl) rfl
theorem q1989 : (Jvm.Cond.classLink "java/util/TreeMap" (59 : Nat) "java/util/TreeMap$Entry") ∈ lw_all := lw_g (lw_at lw_m8 212 rfl) rfl
theorem q1991 : (Jvm.Cond.methodLink "java/util/TreeMap" (167 : Nat) ({ cls := "java/util/TreeMap$Entry", name := "<init>", desc := "(Ljava/lang/Object;Ljava/lang/Object;Ljava/util/TreeMap$Entry;)V" } : Jvm.MethodName)) ∈ lw_all := lw_g (lw_at lw_m8 214 rfl) rfl
theorem q1996 : (Jvm.Cond.fieldLink "java/util/TreeMap" (105 : Nat) "java/util/TreeMap$Entry" "key" "Ljava/lang/Object;") ∈ lw_all := lw_g (lw_at lw_m8 219 rfl) rfl
theorem q1999 : (Jvm.Cond.fieldLink "java/util/TreeMap" (58 : Nat) "java/util/TreeMap$Entry" "value" "Ljava/lang/Object;") ∈ lw_all := lw_g (lw_at lw_m8 222 rfl) rfl
theorem q2000 : (Jvm.Cond.fieldLink "java/util/TreeMap" (111 : Nat) "java/util/TreeMap$Entry" "left" "Ljava/util/TreeMap$Entry;") ∈ lw_all := lw_g (lw_at lw_m8 223 rfl) rfl
theorem q2001 : (Jvm.Cond.fieldLink "java/util/TreeMap" (114 : Nat) "java/util/TreeMap$Entry" "right" "Ljava/util/TreeMap$Entry;") ∈ lw_all := lw_g (lw_at lw_m8 224 rfl) rfl
theorem q2003 : (Jvm.Cond.fieldLink "java/util/TreeMap" (124 : Nat) "java/util/TreeMap$Entry" "parent" "Ljava/util/TreeMap$Entry;") ∈ lw_all := lw_g (lw_at lw_m8 226 rfl) rfl
theorem q2005 : (Jvm.Cond.fieldLink "java/util/TreeMap" (290 : Nat) "java/util/TreeMap$Entry" "color" "Z") ∈ lw_all := lw_g (lw_at lw_m8 228 rfl) rfl
theorem q2019 : (Jvm.Cond.methodLink "java/util/TreeMap" (95 : Nat) ({ cls := "java/util/Objects", name := "requireNonNull", desc := "(Ljava/lang/Object;)Ljava/lang/Object;" } : Jvm.MethodName)) ∈ lw_all := lw_g (lw_at lw_m9 2 rfl) rfl
theorem q2022 : (Jvm.Cond.methodLink "java/util/TreeMap" (139 : Nat) ({ cls := "java/util/TreeMap", name := "addEntry", desc := "(Ljava/lang/Object;Ljava/lang/Object;Ljava/util/TreeMap$Entry;Z)V" } : Jvm.MethodName)) ∈ lw_all := lw_g (lw_at lw_m9 5 rfl) rfl
theorem q2023 : (Jvm.Cond.privateMethod ({ cls := "java/util/TreeMap", name := "addEntry", desc := "(Ljava/lang/Object;Ljava/lang/Object;Ljava/util/TreeMap$Entry;Z)V" } : Jvm.MethodName)) ∈ lw_tbl := lw_at lw_m9 6 rfl
theorem q2024 : (Jvm.Cond.instanceMethod ({ cls := "java/util/TreeMap", name := "addEntry", desc := "(Ljava/lang/Object;Ljava/lang/Object;Ljava/util/TreeMap$Entry;Z)V" } : Jvm.MethodName)) ∈ lw_all := lw_g (lw_at lw_m9 7 rfl) rfl
theorem q2025 : (Jvm.Cond.code ({ cls := "java/util/TreeMap", name := "addEntry", desc := "(Ljava/lang/Object;Ljava/lang/Object;Ljava/util/TreeMap$Entry;Z)V" } : Jvm.MethodName) prog_77_method_29_code (6 : Nat) (Option.none : Option Jvm.ClassFile.FieldType)) ∈ lw_all := lw_g (lw_at lw_m9 8 rfl) rfl
theorem q2026 : (Jvm.Cond.methodLink "java/util/TreeMap" (170 : Nat) ({ cls := "java/util/TreeMap", name := "fixAfterInsertion", desc := "(Ljava/util/TreeMap$Entry;)V" } : Jvm.MethodName)) ∈ lw_all := lw_g (lw_at lw_m9 9 rfl) rfl
theorem q2027 : (Jvm.Cond.privateMethod ({ cls := "java/util/TreeMap", name := "fixAfterInsertion", desc := "(Ljava/util/TreeMap$Entry;)V" } : Jvm.MethodName)) ∈ lw_tbl := lw_at lw_m9 10 rfl
theorem q2028 : (Jvm.Cond.instanceMethod ({ cls := "java/util/TreeMap", name := "fixAfterInsertion", desc := "(Ljava/util/TreeMap$Entry;)V" } : Jvm.MethodName)) ∈ lw_all := lw_g (lw_at lw_m9 11 rfl) rfl
theorem q2029 : (Jvm.Cond.code ({ cls := "java/util/TreeMap", name := "fixAfterInsertion", desc := "(Ljava/util/TreeMap$Entry;)V" } : Jvm.MethodName) prog_77_method_83_code (3 : Nat) (Option.none : Option Jvm.ClassFile.FieldType)) ∈ lw_all := lw_g (lw_at lw_m9 12 rfl) rfl
theorem q2030 : (Jvm.Cond.methodLink "java/util/TreeMap" (294 : Nat) ({ cls := "java/util/TreeMap", name := "parentOf", desc := "(Ljava/util/TreeMap$Entry;)Ljava/util/TreeMap$Entry;" } : Jvm.MethodName)) ∈ lw_all := lw_g (lw_at lw_m9 13 rfl) rfl
theorem q2031 : (Jvm.Cond.static ({ cls := "java/util/TreeMap", name := "parentOf", desc := "(Ljava/util/TreeMap$Entry;)Ljava/util/TreeMap$Entry;" } : Jvm.MethodName)) ∈ lw_all := lw_g (lw_at lw_m9 14 rfl) rfl
theorem q2032 : (Jvm.Cond.code ({ cls := "java/util/TreeMap", name := "parentOf", desc := "(Ljava/util/TreeMap$Entry;)Ljava/util/TreeMap$Entry;" } : Jvm.MethodName) prog_77_method_77_code (1 : Nat) (Option.some (Jvm.ClassFile.FieldType.object "java/util/TreeMap$Entry"))) ∈ lw_all := lw_g (lw_at lw_m9 15 rfl) rfl
theorem q2033 : (Jvm.Cond.methodLink "java/util/TreeMap" (297 : Nat) ({ cls := "java/util/TreeMap", name := "leftOf", desc := "(Ljava/util/TreeMap$Entry;)Ljava/util/TreeMap$Entry;" } : Jvm.MethodName)) ∈ lw_all := lw_g (lw_at lw_m9 16 rfl) rfl
theorem q2034 : (Jvm.Cond.static ({ cls := "java/util/TreeMap", name := "leftOf", desc := "(Ljava/util/TreeMap$Entry;)Ljava/util/TreeMap$Entry;" } : Jvm.MethodName)) ∈ lw_all := lw_g (lw_at lw_m9 17 rfl) rfl
theorem q2035 : (Jvm.Cond.code ({ cls := "java/util/TreeMap", name := "leftOf", desc := "(Ljava/util/TreeMap$Entry;)Ljava/util/TreeMap$Entry;" } : Jvm.MethodName) prog_77_method_79_code (1 : Nat) (Option.some (Jvm.ClassFile.FieldType.object "java/util/TreeMap$Entry"))) ∈ lw_all := lw_g (lw_at lw_m9 18 rfl) rfl
theorem q2036 : (Jvm.Cond.methodLink "java/util/TreeMap" (300 : Nat) ({ cls := "java/util/TreeMap", name := "rightOf", desc := "(Ljava/util/TreeMap$Entry;)Ljava/util/TreeMap$Entry;" } : Jvm.MethodName)) ∈ lw_all := lw_g (lw_at lw_m9 19 rfl) rfl
theorem q2037 : (Jvm.Cond.static ({ cls := "java/util/TreeMap", name := "rightOf", desc := "(Ljava/util/TreeMap$Entry;)Ljava/util/TreeMap$Entry;" } : Jvm.MethodName)) ∈ lw_all := lw_g (lw_at lw_m9 20 rfl) rfl
theorem q2038 : (Jvm.Cond.code ({ cls := "java/util/TreeMap", name := "rightOf", desc := "(Ljava/util/TreeMap$Entry;)Ljava/util/TreeMap$Entry;" } : Jvm.MethodName) prog_77_method_80_code (1 : Nat) (Option.some (Jvm.ClassFile.FieldType.object "java/util/TreeMap$Entry"))) ∈ lw_all := lw_g (lw_at lw_m9 21 rfl) rfl
theorem q2039 : (Jvm.Cond.methodLink "java/util/TreeMap" (303 : Nat) ({ cls := "java/util/TreeMap", name := "colorOf", desc := "(Ljava/util/TreeMap$Entry;)Z" } : Jvm.MethodName)) ∈ lw_all := lw_g (lw_at lw_m9 22 rfl) rfl
theorem q2040 : (Jvm.Cond.static ({ cls := "java/util/TreeMap", name := "colorOf", desc := "(Ljava/util/TreeMap$Entry;)Z" } : Jvm.MethodName)) ∈ lw_all := lw_g (lw_at lw_m9 23 rfl) rfl
theorem q2041 : (Jvm.Cond.code ({ cls := "java/util/TreeMap", name := "colorOf", desc := "(Ljava/util/TreeMap$Entry;)Z" } : Jvm.MethodName) prog_77_method_76_code (1 : Nat) (Option.some Jvm.ClassFile.FieldType.boolean)) ∈ lw_all := lw_g (lw_at lw_m9 24 rfl) rfl
theorem q2042 : (Jvm.Cond.methodLink "java/util/TreeMap" (307 : Nat) ({ cls := "java/util/TreeMap", name := "setColor", desc := "(Ljava/util/TreeMap$Entry;Z)V" } : Jvm.MethodName)) ∈ lw_all := lw_g (lw_at lw_m9 25 rfl) rfl
theorem q2043 : (Jvm.Cond.static ({ cls := "java/util/TreeMap", name := "setColor", desc := "(Ljava/util/TreeMap$Entry;Z)V" } : Jvm.MethodName)) ∈ lw_all := lw_g (lw_at lw_m9 26 rfl) rfl
theorem q2044 : (Jvm.Cond.code ({ cls := "java/util/TreeMap", name := "setColor", desc := "(Ljava/util/TreeMap$Entry;Z)V" } : Jvm.MethodName) prog_77_method_78_code (2 : Nat) (Option.none : Option Jvm.ClassFile.FieldType)) ∈ lw_all := lw_g (lw_at lw_m9 27 rfl) rfl
theorem q2045 : (Jvm.Cond.methodLink "java/util/TreeMap" (311 : Nat) ({ cls := "java/util/TreeMap", name := "rotateLeft", desc := "(Ljava/util/TreeMap$Entry;)V" } : Jvm.MethodName)) ∈ lw_all := lw_g (lw_at lw_m9 28 rfl) rfl
theorem q2046 : (Jvm.Cond.privateMethod ({ cls := "java/util/TreeMap", name := "rotateLeft", desc := "(Ljava/util/TreeMap$Entry;)V" } : Jvm.MethodName)) ∈ lw_tbl := lw_at lw_m9 29 rfl
theorem q2047 : (Jvm.Cond.instanceMethod ({ cls := "java/util/TreeMap", name := "rotateLeft", desc := "(Ljava/util/TreeMap$Entry;)V" } : Jvm.MethodName)) ∈ lw_all := lw_g (lw_at lw_m9 30 rfl) rfl
theorem q2048 : (Jvm.Cond.code ({ cls := "java/util/TreeMap", name := "rotateLeft", desc := "(Ljava/util/TreeMap$Entry;)V" } : Jvm.MethodName) prog_77_method_81_code (3 : Nat) (Option.none : Option Jvm.ClassFile.FieldType)) ∈ lw_all := lw_g (lw_at lw_m9 31 rfl) rfl
theorem q2049 : (Jvm.Cond.methodLink "java/util/TreeMap" (314 : Nat) ({ cls := "java/util/TreeMap", name := "rotateRight", desc := "(Ljava/util/TreeMap$Entry;)V" } : Jvm.MethodName)) ∈ lw_all := lw_g (lw_at lw_m9 32 rfl) rfl
theorem q2050 : (Jvm.Cond.privateMethod ({ cls := "java/util/TreeMap", name := "rotateRight", desc := "(Ljava/util/TreeMap$Entry;)V" } : Jvm.MethodName)) ∈ lw_tbl := lw_at lw_m9 33 rfl
theorem q2051 : (Jvm.Cond.instanceMethod ({ cls := "java/util/TreeMap", name := "rotateRight", desc := "(Ljava/util/TreeMap$Entry;)V" } : Jvm.MethodName)) ∈ lw_all := lw_g (lw_at lw_m9 34 rfl) rfl
theorem q2052 : (Jvm.Cond.code ({ cls := "java/util/TreeMap", name := "rotateRight", desc := "(Ljava/util/TreeMap$Entry;)V" } : Jvm.MethodName) prog_77_method_82_code (3 : Nat) (Option.none : Option Jvm.ClassFile.FieldType)) ∈ lw_all := lw_g (lw_at lw_m9 35 rfl) rfl
theorem q2055 : (Jvm.Cond.instanceMethod ({ cls := "java/util/TreeMap", name := "values", desc := "()Ljava/util/Collection;" } : Jvm.MethodName)) ∈ lw_all := lw_g (lw_at lw_m9 38 rfl) rfl
theorem q2056 : (Jvm.Cond.selects "java/util/TreeMap" ({ cls := "java/util/TreeMap", name := "values", desc := "()Ljava/util/Collection;" } : Jvm.MethodName) ({ cls := "java/util/TreeMap", name := "values", desc := "()Ljava/util/Collection;" } : Jvm.MethodName)) ∈ lw_all := lw_g (lw_at lw_m9 39 rfl) rfl
theorem q2057 : (Jvm.Cond.code ({ cls := "java/util/TreeMap", name := "values", desc := "()Ljava/util/Collection;" } : Jvm.MethodName) prog_77_method_52_code (2 : Nat) (Option.some (Jvm.ClassFile.FieldType.object "java/util/Collection"))) ∈ lw_all := lw_g (lw_at lw_m9 40 rfl) rfl
theorem q2058 : (Jvm.Cond.classLink "java/util/TreeMap" (237 : Nat) "java/util/TreeMap$Values") ∈ lw_all := lw_g (lw_at lw_m9 41 rfl) rfl
theorem q2060 : (Jvm.Cond.methodLink "java/util/TreeMap" (239 : Nat) ({ cls := "java/util/TreeMap$Values", name := "<init>", desc := "(Ljava/util/TreeMap;)V" } : Jvm.MethodName)) ∈ lw_all := lw_g (lw_at lw_m9 43 rfl) rfl
theorem q3194 : (Jvm.Cond.castable "java/util/TreeMap" "java/lang/Object") ∈ lw_tbl := lw_at lw_m13 217 rfl
theorem in_J12 : ∀ w ∈ wsJ120, w ∈ lw_all := lw_in wsJ120 [1921, 1922, 1907, 1909, 1911, 1913, 1915, 1917, 1919] (by decide +kernel) (by decide +kernel)
/-! java/util/AbstractSet -/
set_option maxRecDepth 100000
def RJ13 : String := "java/util/AbstractSet"
abbrev cJ13_init : ByteArray := prog_40_method_1_code
def yJ13_init : MethodName := ⟨RJ13, "<init>", "()V"⟩
theorem dJ13_init_0 : decode cJ13_init 0 = .ok (.aload_n 0, 1) := by decide +kernel
theorem dJ13_init_1 : decode cJ13_init 1 = .ok (.invokespecial 1, 3) := by decide +kernel
theorem dJ13_init_4 : decode cJ13_init 4 = .ok (.return_, 1) := by decide +kernel
theorem q117 : (Jvm.Cond.initialized "java/util/AbstractSet") ∈ lw_all := lw_g (lw_at lw_m1 20 rfl) rfl
theorem q612 : (Jvm.Cond.instanceMethod ({ cls := "java/util/AbstractSet", name := "<init>", desc := "()V" } : Jvm.MethodName)) ∈ lw_all := lw_g (lw_at lw_m3 35 rfl) rfl
theorem q613 : (Jvm.Cond.code ({ cls := "java/util/AbstractSet", name := "<init>", desc := "()V" } : Jvm.MethodName) prog_40_method_1_code (1 : Nat) (Option.none : Option Jvm.ClassFile.FieldType)) ∈ lw_all := lw_g (lw_at lw_m3 36 rfl) rfl
theorem q614 : (Jvm.Cond.methodLink "java/util/AbstractSet" (1 : Nat) ({ cls := "java/util/AbstractCollection", name := "<init>", desc := "()V" } : Jvm.MethodName)) ∈ lw_all := lw_g (lw_at lw_m3 37 rfl) rfl
/-! java/util/HashSet -/
set_option maxRecDepth 100000
def RJ14 : String := "java/util/HashSet"
abbrev cJ14_init : ByteArray := prog_55_method_5_code
def yJ14_init : MethodName := ⟨RJ14, "<init>", "(IFZ)V"⟩
def dkwJ14_init_0 : List UInt8 := [42, 183, 0, 1, 42, 187, 0, 42, 89, 27, 36, 183, 0, 44, 181, 0, 10, 177]
abbrev dktJ14_init_0 : List UInt8 := dkwJ14_init_0 ++ []
theorem dksJ14_init_0 : cJ14_init.data.toList.drop 0 = dktJ14_init_0 := by decide +kernel
theorem dJ14_init_0 : decode cJ14_init 0 = .ok (.aload_n 0, 1) := dk_42 (dk_at dksJ14_init_0 0 rfl rfl)
theorem dJ14_init_1 : decode cJ14_init 1 = .ok (.invokespecial 1, 3) := dk_183 0 1 (dk_at dksJ14_init_0 1 rfl rfl)
theorem dJ14_init_4 : decode cJ14_init 4 = .ok (.aload_n 0, 1) := dk_42 (dk_at dksJ14_init_0 4 rfl rfl)
theorem dJ14_init_5 : decode cJ14_init 5 = .ok (.new 42, 3) := dk_187 0 42 (dk_at dksJ14_init_0 5 rfl rfl)
theorem dJ14_init_8 : decode cJ14_init 8 = .ok (.dup, 1) := dk_89 (dk_at dksJ14_init_0 8 rfl rfl)
theorem dJ14_init_9 : decode cJ14_init 9 = .ok (.iload_n 1, 1) := dk_27 (dk_at dksJ14_init_0 9 rfl rfl)
theorem dJ14_init_10 : decode cJ14_init 10 = .ok (.fload_n 2, 1) := dk_36 (dk_at dksJ14_init_0 10 rfl rfl)
theorem dJ14_init_11 : decode cJ14_init 11 = .ok (.invokespecial 44, 3) := dk_183 0 44 (dk_at dksJ14_init_0 11 rfl rfl)
theorem dJ14_init_14 : decode cJ14_init 14 = .ok (.putfield 10, 3) := dk_181 0 10 (dk_at dksJ14_init_0 14 rfl rfl)
theorem dJ14_init_17 : decode cJ14_init 17 = .ok (.return_, 1) := dk_177 (dk_at dksJ14_init_0 17 rfl rfl)
abbrev cJ14_iterator : ByteArray := prog_55_method_6_code
def yJ14_iterator : MethodName := ⟨RJ14, "iterator", "()Ljava/util/Iterator;"⟩
def dkwJ14_iterator_0 : List UInt8 := [42, 180, 0, 10, 182, 0, 45, 185, 0, 49, 1, 0, 176]
abbrev dktJ14_iterator_0 : List UInt8 := dkwJ14_iterator_0 ++ []
theorem dksJ14_iterator_0 : cJ14_iterator.data.toList.drop 0 = dktJ14_iterator_0 := by decide +kernel
theorem dJ14_iterator_0 : decode cJ14_iterator 0 = .ok (.aload_n 0, 1) := dk_42 (dk_at dksJ14_iterator_0 0 rfl rfl)
theorem dJ14_iterator_1 : decode cJ14_iterator 1 = .ok (.getfield 10, 3) := dk_180 0 10 (dk_at dksJ14_iterator_0 1 rfl rfl)
theorem dJ14_iterator_4 : decode cJ14_iterator 4 = .ok (.invokevirtual 45, 3) := dk_182 0 45 (dk_at dksJ14_iterator_0 4 rfl rfl)
theorem dJ14_iterator_7 : decode cJ14_iterator 7 = .ok (.invokeinterface 49 1, 5) := by decide +kernel
theorem dJ14_iterator_12 : decode cJ14_iterator 12 = .ok (.areturn, 1) := dk_176 (dk_at dksJ14_iterator_0 12 rfl rfl)
abbrev cJ14_add : ByteArray := prog_55_method_10_code
def yJ14_add : MethodName := ⟨RJ14, "add", "(Ljava/lang/Object;)Z"⟩
def dkwJ14_add_0 : List UInt8 := [42, 180, 0, 10, 43, 178, 0, 64, 182, 0, 68, 199, 0, 7, 4, 167, 0, 4, 3, 172]
abbrev dktJ14_add_0 : List UInt8 := dkwJ14_add_0 ++ []
theorem dksJ14_add_0 : cJ14_add.data.toList.drop 0 = dktJ14_add_0 := by decide +kernel
theorem dJ14_add_0 : decode cJ14_add 0 = .ok (.aload_n 0, 1) := dk_42 (dk_at dksJ14_add_0 0 rfl rfl)
theorem dJ14_add_1 : decode cJ14_add 1 = .ok (.getfield 10, 3) := dk_180 0 10 (dk_at dksJ14_add_0 1 rfl rfl)
theorem dJ14_add_4 : decode cJ14_add 4 = .ok (.aload_n 1, 1) := dk_43 (dk_at dksJ14_add_0 4 rfl rfl)
theorem dJ14_add_5 : decode cJ14_add 5 = .ok (.getstatic 64, 3) := dk_178 0 64 (dk_at dksJ14_add_0 5 rfl rfl)
theorem dJ14_add_8 : decode cJ14_add 8 = .ok (.invokevirtual 68, 3) := dk_182 0 68 (dk_at dksJ14_add_0 8 rfl rfl)
theorem dJ14_add_11 : decode cJ14_add 11 = .ok (.ifnonnull 7, 3) := dk_199 0 7 (dk_at dksJ14_add_0 11 rfl rfl)
theorem dJ14_add_14 : decode cJ14_add 14 = .ok (.iconst 1, 1) := dk_4 (dk_at dksJ14_add_0 14 rfl rfl)
theorem dJ14_add_15 : decode cJ14_add 15 = .ok (.goto 4, 3) := dk_167 0 4 (dk_at dksJ14_add_0 15 rfl rfl)
theorem dJ14_add_18 : decode cJ14_add 18 = .ok (.iconst 0, 1) := dk_3 (dk_at dksJ14_add_0 18 rfl rfl)
theorem dJ14_add_19 : decode cJ14_add 19 = .ok (.ireturn, 1) := dk_172 (dk_at dksJ14_add_0 19 rfl rfl)
abbrev cJ14_size : ByteArray := prog_55_method_7_code
def yJ14_size : MethodName := ⟨RJ14, "size", "()I"⟩
def dkwJ14_size_0 : List UInt8 := [42, 180, 0, 10, 182, 0, 55, 172]
abbrev dktJ14_size_0 : List UInt8 := dkwJ14_size_0 ++ []
theorem dksJ14_size_0 : cJ14_size.data.toList.drop 0 = dktJ14_size_0 := by decide +kernel
theorem dJ14_size_0 : decode cJ14_size 0 = .ok (.aload_n 0, 1) := dk_42 (dk_at dksJ14_size_0 0 rfl rfl)
theorem dJ14_size_1 : decode cJ14_size 1 = .ok (.getfield 10, 3) := dk_180 0 10 (dk_at dksJ14_size_0 1 rfl rfl)
theorem dJ14_size_4 : decode cJ14_size 4 = .ok (.invokevirtual 55, 3) := dk_182 0 55 (dk_at dksJ14_size_0 4 rfl rfl)
theorem dJ14_size_7 : decode cJ14_size 7 = .ok (.ireturn, 1) := dk_172 (dk_at dksJ14_size_0 7 rfl rfl)
abbrev cJ14_contains : ByteArray := prog_55_method_9_code
def yJ14_contains : MethodName := ⟨RJ14, "contains", "(Ljava/lang/Object;)Z"⟩
def dkwJ14_contains_0 : List UInt8 := [42, 180, 0, 10, 43, 182, 0, 60, 172]
abbrev dktJ14_contains_0 : List UInt8 := dkwJ14_contains_0 ++ []
theorem dksJ14_contains_0 : cJ14_contains.data.toList.drop 0 = dktJ14_contains_0 := by decide +kernel
theorem dJ14_contains_0 : decode cJ14_contains 0 = .ok (.aload_n 0, 1) := dk_42 (dk_at dksJ14_contains_0 0 rfl rfl)
theorem dJ14_contains_1 : decode cJ14_contains 1 = .ok (.getfield 10, 3) := dk_180 0 10 (dk_at dksJ14_contains_0 1 rfl rfl)
theorem dJ14_contains_4 : decode cJ14_contains 4 = .ok (.aload_n 1, 1) := dk_43 (dk_at dksJ14_contains_0 4 rfl rfl)
theorem dJ14_contains_5 : decode cJ14_contains 5 = .ok (.invokevirtual 60, 3) := dk_182 0 60 (dk_at dksJ14_contains_0 5 rfl rfl)
theorem dJ14_contains_8 : decode cJ14_contains 8 = .ok (.ireturn, 1) := dk_172 (dk_at dksJ14_contains_0 8 rfl rfl)
abbrev cJ14_clear : ByteArray := prog_55_method_12_code
def yJ14_clear : MethodName := ⟨RJ14, "clear", "()V"⟩
def dkwJ14_clear_0 : List UInt8 := [42, 180, 0, 10, 182, 0, 76, 177]
abbrev dktJ14_clear_0 : List UInt8 := dkwJ14_clear_0 ++ []
theorem dksJ14_clear_0 : cJ14_clear.data.toList.drop 0 = dktJ14_clear_0 := by decide +kernel
theorem dJ14_clear_0 : decode cJ14_clear 0 = .ok (.aload_n 0, 1) := dk_42 (dk_at dksJ14_clear_0 0 rfl rfl)
theorem dJ14_clear_1 : decode cJ14_clear 1 = .ok (.getfield 10, 3) := dk_180 0 10 (dk_at dksJ14_clear_0 1 rfl rfl)
theorem dJ14_clear_4 : decode cJ14_clear 4 = .ok (.invokevirtual 76, 3) := dk_182 0 76 (dk_at dksJ14_clear_0 4 rfl rfl)
theorem dJ14_clear_7 : decode cJ14_clear 7 = .ok (.return_, 1) := dk_177 (dk_at dksJ14_clear_0 7 rfl rfl)
theorem q118 : (Jvm.Cond.initialized "java/util/HashSet") ∈ lw_all := lw_g (lw_at lw_m1 21 rfl) rfl
theorem q609 : (Jvm.Cond.instanceMethod ({ cls := "java/util/HashSet", name := "<init>", desc := "(IFZ)V" } : Jvm.MethodName)) ∈ lw_all := lw_g (lw_at lw_m3 32 rfl) rfl
theorem q610 : (Jvm.Cond.code ({ cls := "java/util/HashSet", name := "<init>", desc := "(IFZ)V" } : Jvm.MethodName) prog_55_method_5_code (4 : Nat) (Option.none : Option Jvm.ClassFile.FieldType)) ∈ lw_all := lw_g (lw_at lw_m3 33 rfl) rfl
theorem q611 : (Jvm.Cond.methodLink "java/util/HashSet" (1 : Nat) ({ cls := "java/util/AbstractSet", name := "<init>", desc := "()V" } : Jvm.MethodName)) ∈ lw_all := lw_g (lw_at lw_m3 34 rfl) rfl
theorem q615 : (Jvm.Cond.classLink "java/util/HashSet" (42 : Nat) "java/util/LinkedHashMap") ∈ lw_all := lw_g (lw_at lw_m3 38 rfl) rfl
theorem q616 : (Jvm.Cond.methodLink "java/util/HashSet" (44 : Nat) ({ cls := "java/util/LinkedHashMap", name := "<init>", desc := "(IF)V" } : Jvm.MethodName)) ∈ lw_all := lw_g (lw_at lw_m3 39 rfl) rfl
theorem q633 : (Jvm.Cond.fieldLink "java/util/HashSet" (10 : Nat) "java/util/HashSet" "map" "Ljava/util/HashMap;") ∈ lw_all := lw_g (lw_at lw_m3 56 rfl) rfl
theorem q635 : (Jvm.Cond.soleField "java/util/HashSet" "map") ∈ lw_all := lw_g (lw_at lw_m3 58 rfl) rfl
theorem q792 : (Jvm.Cond.instanceMethod ({ cls := "java/util/HashSet", name := "iterator", desc := "()Ljava/util/Iterator;" } : Jvm.MethodName)) ∈ lw_all := lw_g (lw_at lw_m3 215 rfl) rfl
theorem q793 : (Jvm.Cond.publicMethod ({ cls := "java/util/HashSet", name := "iterator", desc := "()Ljava/util/Iterator;" } : Jvm.MethodName)) ∈ lw_tbl := lw_at lw_m3 216 rfl
theorem q794 : (Jvm.Cond.code ({ cls := "java/util/HashSet", name := "iterator", desc := "()Ljava/util/Iterator;" } : Jvm.MethodName) prog_55_method_6_code (1 : Nat) (Option.some (Jvm.ClassFile.FieldType.object "java/util/Iterator"))) ∈ lw_all := lw_g (lw_at lw_m3 217 rfl) rfl
theorem q795 : (Jvm.Cond.methodLink "java/util/HashSet" (45 : Nat) ({ cls := "java/util/HashMap", name := "keySet", desc := "()Ljava/util/Set;" } : Jvm.MethodName)) ∈ lw_all := lw_g (lw_at lw_m3 218 rfl) rfl
theorem q820 : (Jvm.Cond.interfaceEntry "java/util/HashSet" (49 : Nat)) ∈ lw_tbl := lw_at lw_m4 3 rfl
theorem q821 : (Jvm.Cond.methodLink "java/util/HashSet" (49 : Nat) ({ cls := "java/util/Set", name := "iterator", desc := "()Ljava/util/Iterator;" } : Jvm.MethodName)) ∈ lw_all := lw_g (lw_at lw_m4 4 rfl) rfl
theorem q900 : (Jvm.Cond.declares ({ cls := "java/util/HashSet", name := "add", desc := "(Ljava/lang/Object;)Z" } : Jvm.MethodName)) ∈ lw_tbl := lw_at lw_m4 83 rfl
theorem q902 : (Jvm.Cond.instanceMethod ({ cls := "java/util/HashSet", name := "add", desc := "(Ljava/lang/Object;)Z" } : Jvm.MethodName)) ∈ lw_all := lw_g (lw_at lw_m4 85 rfl) rfl
theorem q903 : (Jvm.Cond.code ({ cls := "java/util/HashSet", name := "add", desc := "(Ljava/lang/Object;)Z" } : Jvm.MethodName) prog_55_method_10_code (2 : Nat) (Option.some Jvm.ClassFile.FieldType.boolean)) ∈ lw_all := lw_g (lw_at lw_m4 86 rfl) rfl
theorem q904 : (Jvm.Cond.fieldLink "java/util/HashSet" (64 : Nat) "java/util/HashSet" "PRESENT" "Ljava/lang/Object;") ∈ lw_all := lw_g (lw_at lw_m4 87 rfl) rfl
theorem q905 : (Jvm.Cond.laysStatic "java/util/HashSet" "PRESENT" "Ljava/lang/Object;") ∈ lw_tbl := lw_at lw_m4 88 rfl
theorem q906 : (Jvm.Cond.methodLink "java/util/HashSet" (68 : Nat) ({ cls := "java/util/HashMap", name := "put", desc := "(Ljava/lang/Object;Ljava/lang/Object;)Ljava/lang/Object;" } : Jvm.MethodName)) ∈ lw_all := lw_g (lw_at lw_m4 89 rfl) rfl
theorem q1609 : (Jvm.Cond.declares ({ cls := "java/util/HashSet", name := "iterator", desc := "()Ljava/util/Iterator;" } : Jvm.MethodName)) ∈ lw_tbl := lw_at lw_m7 72 rfl
theorem q1779 : (Jvm.Cond.declares ({ cls := "java/util/HashSet", name := "size", desc := "()I" } : Jvm.MethodName)) ∈ lw_tbl := lw_at lw_m8 2 rfl
theorem q1781 : (Jvm.Cond.instanceMethod ({ cls := "java/util/HashSet", name := "size", desc := "()I" } : Jvm.MethodName)) ∈ lw_all := lw_g (lw_at lw_m8 4 rfl) rfl
theorem q1782 : (Jvm.Cond.code ({ cls := "java/util/HashSet", name := "size", desc := "()I" } : Jvm.MethodName) prog_55_method_7_code (1 : Nat) (Option.some Jvm.ClassFile.FieldType.int)) ∈ lw_all := lw_g (lw_at lw_m8 5 rfl) rfl
theorem q1783 : (Jvm.Cond.methodLink "java/util/HashSet" (55 : Nat) ({ cls := "java/util/HashMap", name := "size", desc := "()I" } : Jvm.MethodName)) ∈ lw_all := lw_g (lw_at lw_m8 6 rfl) rfl
theorem q1839 : (Jvm.Cond.instanceMethod ({ cls := "java/util/HashSet", name := "contains", desc := "(Ljava/lang/Object;)Z" } : Jvm.MethodName)) ∈ lw_all := lw_g (lw_at lw_m8 62 rfl) rfl
theorem q1840 : (Jvm.Cond.publicMethod ({ cls := "java/util/HashSet", name := "contains", desc := "(Ljava/lang/Object;)Z" } : Jvm.MethodName)) ∈ lw_tbl := lw_at lw_m8 63 rfl
theorem q1841 : (Jvm.Cond.code ({ cls := "java/util/HashSet", name := "contains", desc := "(Ljava/lang/Object;)Z" } : Jvm.MethodName) prog_55_method_9_code (2 : Nat) (Option.some Jvm.ClassFile.FieldType.boolean)) ∈ lw_all := lw_g (lw_at lw_m8 64 rfl) rfl
theorem q1842 : (Jvm.Cond.methodLink "java/util/HashSet" (60 : Nat) ({ cls := "java/util/HashMap", name := "containsKey", desc := "(Ljava/lang/Object;)Z" } : Jvm.MethodName)) ∈ lw_all := lw_g (lw_at lw_m8 65 rfl) rfl
theorem q2223 : (Jvm.Cond.declares ({ cls := "java/util/HashSet", name := "clear", desc := "()V" } : Jvm.MethodName)) ∈ lw_tbl := lw_at lw_m9 206 rfl
theorem q2225 : (Jvm.Cond.instanceMethod ({ cls := "java/util/HashSet", name := "clear", desc := "()V" } : Jvm.MethodName)) ∈ lw_all := lw_g (lw_at lw_m9 208 rfl) rfl
theorem q2226 : (Jvm.Cond.code ({ cls := "java/util/HashSet", name := "clear", desc := "()V" } : Jvm.MethodName) prog_55_method_12_code (1 : Nat) (Option.none : Option Jvm.ClassFile.FieldType)) ∈ lw_all := lw_g (lw_at lw_m9 209 rfl) rfl
theorem q2227 : (Jvm.Cond.methodLink "java/util/HashSet" (76 : Nat) ({ cls := "java/util/HashMap", name := "clear", desc := "()V" } : Jvm.MethodName)) ∈ lw_all := lw_g (lw_at lw_m9 210 rfl) rfl
/-! java/util/LinkedHashSet -/
set_option maxRecDepth 100000
def RJ15 : String := "java/util/LinkedHashSet"
def TJ15 : u_T := fun k => match k with
  | _ => ("java/util/HashSet", "map", "Ljava/util/HashMap;", false)
def tyJ15 : Nat → FieldType := fun k => match k with
  | _ => .object "java/util/HashMap"
abbrev wsJ150 : List Cond := u_ws RJ15 TJ15 1
theorem nmJ15 : ∀ a, a < 1 → ∀ b, b < 1 → a ≠ b → (TJ15 a).2.1 ≠ (TJ15 b).2.1 := by decide +kernel
theorem tyJ15_ok : ∀ k, k < 1 → parseFieldDescriptor (TJ15 k).2.2.1 = some (tyJ15 k) := by decide +kernel
abbrev cJ15_init : ByteArray := prog_62_method_3_code
def yJ15_init : MethodName := ⟨RJ15, "<init>", "()V"⟩
def dkwJ15_init_0 : List UInt8 := [42, 16, 16, 18, 7, 4, 183, 0, 1, 177]
abbrev dktJ15_init_0 : List UInt8 := dkwJ15_init_0 ++ []
theorem dksJ15_init_0 : cJ15_init.data.toList.drop 0 = dktJ15_init_0 := by decide +kernel
theorem dJ15_init_0 : decode cJ15_init 0 = .ok (.aload_n 0, 1) := dk_42 (dk_at dksJ15_init_0 0 rfl rfl)
theorem dJ15_init_1 : decode cJ15_init 1 = .ok (.bipush 16, 2) := dk_16 16 (dk_at dksJ15_init_0 1 rfl rfl)
theorem dJ15_init_3 : decode cJ15_init 3 = .ok (.ldc 7, 2) := dk_18 7 (dk_at dksJ15_init_0 3 rfl rfl)
theorem dJ15_init_5 : decode cJ15_init 5 = .ok (.iconst 1, 1) := dk_4 (dk_at dksJ15_init_0 5 rfl rfl)
theorem dJ15_init_6 : decode cJ15_init 6 = .ok (.invokespecial 1, 3) := dk_183 0 1 (dk_at dksJ15_init_0 6 rfl rfl)
theorem dJ15_init_9 : decode cJ15_init 9 = .ok (.return_, 1) := dk_177 (dk_at dksJ15_init_0 9 rfl rfl)
theorem q119 : (Jvm.Cond.initialized "java/util/LinkedHashSet") ∈ lw_all := lw_g (lw_at lw_m1 22 rfl) rfl
theorem q603 : (Jvm.Cond.instantiable "java/util/LinkedHashSet" (1 : Nat)) ∈ lw_all := lw_g (lw_at lw_m3 26 rfl) rfl
theorem q605 : (Jvm.Cond.instanceMethod ({ cls := "java/util/LinkedHashSet", name := "<init>", desc := "()V" } : Jvm.MethodName)) ∈ lw_all := lw_g (lw_at lw_m3 28 rfl) rfl
theorem q606 : (Jvm.Cond.code ({ cls := "java/util/LinkedHashSet", name := "<init>", desc := "()V" } : Jvm.MethodName) prog_62_method_3_code (1 : Nat) (Option.none : Option Jvm.ClassFile.FieldType)) ∈ lw_all := lw_g (lw_at lw_m3 29 rfl) rfl
theorem q607 : (Jvm.Cond.constantFloat "java/util/LinkedHashSet" (7 : Nat) (1061158912 : UInt32)) ∈ lw_all := lw_g (lw_at lw_m3 30 rfl) rfl
theorem q608 : (Jvm.Cond.methodLink "java/util/LinkedHashSet" (1 : Nat) ({ cls := "java/util/HashSet", name := "<init>", desc := "(IFZ)V" } : Jvm.MethodName)) ∈ lw_all := lw_g (lw_at lw_m3 31 rfl) rfl
theorem q634 : (Jvm.Cond.lays "java/util/LinkedHashSet" "java/util/HashSet" "map" "Ljava/util/HashMap;") ∈ lw_all := lw_g (lw_at lw_m3 57 rfl) rfl
theorem q636 : (Jvm.Cond.superclass "java/util/LinkedHashSet" "java/util/HashSet") ∈ lw_all := lw_g (lw_at lw_m3 59 rfl) rfl
theorem q789 : (Jvm.Cond.castable "java/util/LinkedHashSet" "java/util/Collection") ∈ lw_tbl := lw_at lw_m3 212 rfl
theorem q790 : (Jvm.Cond.selects "java/util/LinkedHashSet" ({ cls := "java/util/Collection", name := "iterator", desc := "()Ljava/util/Iterator;" } : Jvm.MethodName) ({ cls := "java/util/HashSet", name := "iterator", desc := "()Ljava/util/Iterator;" } : Jvm.MethodName)) ∈ lw_all := lw_g (lw_at lw_m3 213 rfl) rfl
theorem q791 : (Jvm.Cond.unhidden "java/util/LinkedHashSet" "iterator" "()Ljava/util/Iterator;") ∈ lw_tbl := lw_at lw_m3 214 rfl
theorem q828 : (Jvm.Cond.castable "java/util/LinkedHashSet" "java/util/Set") ∈ lw_tbl := lw_at lw_m4 11 rfl
theorem q829 : (Jvm.Cond.selects "java/util/LinkedHashSet" ({ cls := "java/util/Set", name := "iterator", desc := "()Ljava/util/Iterator;" } : Jvm.MethodName) ({ cls := "java/util/HashSet", name := "iterator", desc := "()Ljava/util/Iterator;" } : Jvm.MethodName)) ∈ lw_all := lw_g (lw_at lw_m4 12 rfl) rfl
theorem q899 : (Jvm.Cond.sameMethod "java/util/LinkedHashSet" "java/util/HashSet" "add" "(Ljava/lang/Object;)Z") ∈ lw_all := lw_g (lw_at lw_m4 82 rfl) rfl
theorem q901 : (Jvm.Cond.selects "java/util/LinkedHashSet" ({ cls := "java/util/LinkedHashSet", name := "add", desc := "(Ljava/lang/Object;)Z" } : Jvm.MethodName) ({ cls := "java/util/HashSet", name := "add", desc := "(Ljava/lang/Object;)Z" } : Jvm.MethodName)) ∈ lw_all := lw_g (lw_at lw_m4 84 rfl) rfl
theorem q1129 : (Jvm.Cond.selects "java/util/LinkedHashSet" ({ cls := "java/lang/Object", name := "getClass", desc := "()Ljava/lang/Class;" } : Jvm.MethodName) ({ cls := "java/lang/Object", name := "getClass", desc := "()Ljava/lang/Class;" } : Jvm.MethodName)) ∈ lw_all := lw_g (lw_at lw_m5 72 rfl) rfl
theorem q1608 : (Jvm.Cond.sameMethod "java/util/LinkedHashSet" "java/util/HashSet" "iterator" "()Ljava/util/Iterator;") ∈ lw_all := lw_g (lw_at lw_m7 71 rfl) rfl
theorem q1610 : (Jvm.Cond.selects "java/util/LinkedHashSet" ({ cls := "java/util/LinkedHashSet", name := "iterator", desc := "()Ljava/util/Iterator;" } : Jvm.MethodName) ({ cls := "java/util/HashSet", name := "iterator", desc := "()Ljava/util/Iterator;" } : Jvm.MethodName)) ∈ lw_all := lw_g (lw_at lw_m7 73 rfl) rfl
theorem q1778 : (Jvm.Cond.sameMethod "java/util/LinkedHashSet" "java/util/HashSet" "size" "()I") ∈ lw_all := lw_g (lw_at lw_m8 1 rfl) rfl
theorem q1780 : (Jvm.Cond.selects "java/util/LinkedHashSet" ({ cls := "java/util/LinkedHashSet", name := "size", desc := "()I" } : Jvm.MethodName) ({ cls := "java/util/HashSet", name := "size", desc := "()I" } : Jvm.MethodName)) ∈ lw_all := lw_g (lw_at lw_m8 3 rfl) rfl
theorem q1837 : (Jvm.Cond.selects "java/util/LinkedHashSet" ({ cls := "java/util/Collection", name := "contains", desc := "(Ljava/lang/Object;)Z" } : Jvm.MethodName) ({ cls := "java/util/HashSet", name := "contains", desc := "(Ljava/lang/Object;)Z" } : Jvm.MethodName)) ∈ lw_all := lw_g (lw_at lw_m8 60 rfl) rfl
theorem q1838 : (Jvm.Cond.unhidden "java/util/LinkedHashSet" "contains" "(Ljava/lang/Object;)Z") ∈ lw_tbl := lw_at lw_m8 61 rfl
theorem q2222 : (Jvm.Cond.sameMethod "java/util/LinkedHashSet" "java/util/HashSet" "clear" "()V") ∈ lw_all := lw_g (lw_at lw_m9 205 rfl) rfl
theorem q2224 : (Jvm.Cond.selects "java/util/LinkedHashSet" ({ cls := "java/util/LinkedHashSet", name := "clear", desc := "()V" } : Jvm.MethodName) ({ cls := "java/util/HashSet", name := "clear", desc := "()V" } : Jvm.MethodName)) ∈ lw_all := lw_g (lw_at lw_m9 207 rfl) rfl
theorem q3169 : (Jvm.Cond.castable "java/util/LinkedHashSet" "java/util/SequencedSet") ∈ lw_tbl := lw_at lw_m13 192 rfl
theorem q3183 : (Jvm.Cond.castable "java/util/LinkedHashSet" "java/lang/Object") ∈ lw_tbl := lw_at lw_m13 206 rfl
theorem in_J15 : ∀ w ∈ wsJ150, w ∈ lw_all := lw_in wsJ150 [634] (by decide +kernel) (by decide +kernel)
/-! java/lang/Number -/
set_option maxRecDepth 100000
def RJ16 : String := "java/lang/Number"
abbrev cJ16_init : ByteArray := prog_27_method_1_code
def yJ16_init : MethodName := ⟨RJ16, "<init>", "()V"⟩
theorem dJ16_init_0 : decode cJ16_init 0 = .ok (.aload_n 0, 1) := by decide +kernel
theorem dJ16_init_1 : decode cJ16_init 1 = .ok (.invokespecial 1, 3) := by decide +kernel
theorem dJ16_init_4 : decode cJ16_init 4 = .ok (.return_, 1) := by decide +kernel
theorem q120 : (Jvm.Cond.initialized "java/lang/Number") ∈ lw_all := lw_g (lw_at lw_m1 23 rfl) rfl
theorem q1937 : (Jvm.Cond.instanceMethod ({ cls := "java/lang/Number", name := "<init>", desc := "()V" } : Jvm.MethodName)) ∈ lw_all := lw_g (lw_at lw_m8 160 rfl) rfl
theorem q1938 : (Jvm.Cond.code ({ cls := "java/lang/Number", name := "<init>", desc := "()V" } : Jvm.MethodName) prog_27_method_1_code (1 : Nat) (Option.none : Option Jvm.ClassFile.FieldType)) ∈ lw_all := lw_g (lw_at lw_m8 161 rfl) rfl
theorem q1939 : (Jvm.Cond.methodLink "java/lang/Number" (1 : Nat) ({ cls := "java/lang/Object", name := "<init>", desc := "()V" } : Jvm.MethodName)) ∈ lw_all := lw_g (lw_at lw_m8 162 rfl) rfl
/-! java/lang/Float -/
set_option maxRecDepth 100000
def RJ17 : String := "java/lang/Float"
abbrev cJ17_isNaN : ByteArray := prog_21_method_6_code
def yJ17_isNaN : MethodName := ⟨RJ17, "isNaN", "(F)Z"⟩
def dkwJ17_isNaN_0 : List UInt8 := [34, 34, 149, 153, 0, 7, 4, 167, 0, 4, 3, 172]
abbrev dktJ17_isNaN_0 : List UInt8 := dkwJ17_isNaN_0 ++ []
theorem dksJ17_isNaN_0 : cJ17_isNaN.data.toList.drop 0 = dktJ17_isNaN_0 := by decide +kernel
theorem dJ17_isNaN_0 : decode cJ17_isNaN 0 = .ok (.fload_n 0, 1) := dk_34 (dk_at dksJ17_isNaN_0 0 rfl rfl)
theorem dJ17_isNaN_1 : decode cJ17_isNaN 1 = .ok (.fload_n 0, 1) := dk_34 (dk_at dksJ17_isNaN_0 1 rfl rfl)
theorem dJ17_isNaN_2 : decode cJ17_isNaN 2 = .ok (.fcmp .l, 1) := dk_149 (dk_at dksJ17_isNaN_0 2 rfl rfl)
theorem dJ17_isNaN_3 : decode cJ17_isNaN 3 = .ok (.ifCond .eq 7, 3) := dk_153 0 7 (dk_at dksJ17_isNaN_0 3 rfl rfl)
theorem dJ17_isNaN_6 : decode cJ17_isNaN 6 = .ok (.iconst 1, 1) := dk_4 (dk_at dksJ17_isNaN_0 6 rfl rfl)
theorem dJ17_isNaN_7 : decode cJ17_isNaN 7 = .ok (.goto 4, 3) := dk_167 0 4 (dk_at dksJ17_isNaN_0 7 rfl rfl)
theorem dJ17_isNaN_10 : decode cJ17_isNaN 10 = .ok (.iconst 0, 1) := dk_3 (dk_at dksJ17_isNaN_0 10 rfl rfl)
theorem dJ17_isNaN_11 : decode cJ17_isNaN 11 = .ok (.ireturn, 1) := dk_172 (dk_at dksJ17_isNaN_0 11 rfl rfl)
theorem q121 : (Jvm.Cond.initialized "java/lang/Float") ∈ lw_all := lw_g (lw_at lw_m1 24 rfl) rfl
theorem q624 : (Jvm.Cond.static ({ cls := "java/lang/Float", name := "isNaN", desc := "(F)Z" } : Jvm.MethodName)) ∈ lw_all := lw_g (lw_at lw_m3 47 rfl) rfl
theorem q625 : (Jvm.Cond.code ({ cls := "java/lang/Float", name := "isNaN", desc := "(F)Z" } : Jvm.MethodName) prog_21_method_6_code (1 : Nat) (Option.some Jvm.ClassFile.FieldType.boolean)) ∈ lw_all := lw_g (lw_at lw_m3 48 rfl) rfl
/-! java/lang/Integer -/
set_option maxRecDepth 100000
def RJ18 : String := "java/lang/Integer"
def TJ18 : u_T := fun k => match k with
  | _ => ("java/lang/Integer", "value", "I", true)
def tyJ18 : Nat → FieldType := fun k => match k with
  | _ => .int
abbrev wsJ180 : List Cond := u_ws RJ18 TJ18 1
theorem nmJ18 : ∀ a, a < 1 → ∀ b, b < 1 → a ≠ b → (TJ18 a).2.1 ≠ (TJ18 b).2.1 := by decide +kernel
theorem tyJ18_ok : ∀ k, k < 1 → parseFieldDescriptor (TJ18 k).2.2.1 = some (tyJ18 k) := by decide +kernel
abbrev cJ18_numberOfLeadingZeros : ByteArray := prog_22_method_47_code
def yJ18_numberOfLeadingZeros : MethodName := ⟨RJ18, "numberOfLeadingZeros", "(I)I"⟩
def dkwJ18_numberOfLeadingZeros_3 : List UInt8 := [5, 124, 59, 27, 26, 4, 124, 100, 172]
abbrev dktJ18_numberOfLeadingZeros_3 : List UInt8 := dkwJ18_numberOfLeadingZeros_3 ++ []
def dkwJ18_numberOfLeadingZeros_2 : List UInt8 := [124, 59, 26, 16, 16, 161, 0, 10, 132, 1, 252, 26, 7, 124, 59, 26, 7, 161, 0, 10, 132, 1, 254, 26]
abbrev dktJ18_numberOfLeadingZeros_2 : List UInt8 := dkwJ18_numberOfLeadingZeros_2 ++ dktJ18_numberOfLeadingZeros_3
def dkwJ18_numberOfLeadingZeros_1 : List UInt8 := [161, 0, 11, 132, 1, 240, 26, 16, 16, 124, 59, 26, 17, 1, 0, 161, 0, 11, 132, 1, 248, 26, 16, 8]
abbrev dktJ18_numberOfLeadingZeros_1 : List UInt8 := dkwJ18_numberOfLeadingZeros_1 ++ dktJ18_numberOfLeadingZeros_2
def dkwJ18_numberOfLeadingZeros_0 : List UInt8 := [26, 157, 0, 14, 26, 154, 0, 8, 16, 32, 167, 0, 4, 3, 172, 16, 31, 60, 26, 19, 1, 8]
abbrev dktJ18_numberOfLeadingZeros_0 : List UInt8 := dkwJ18_numberOfLeadingZeros_0 ++ dktJ18_numberOfLeadingZeros_1
theorem dksJ18_numberOfLeadingZeros_0 : cJ18_numberOfLeadingZeros.data.toList.drop 0 = dktJ18_numberOfLeadingZeros_0 := by decide +kernel
theorem dksJ18_numberOfLeadingZeros_1 : cJ18_numberOfLeadingZeros.data.toList.drop 22 = dktJ18_numberOfLeadingZeros_1 := dk_seg dksJ18_numberOfLeadingZeros_0 22 rfl rfl
theorem dksJ18_numberOfLeadingZeros_2 : cJ18_numberOfLeadingZeros.data.toList.drop 46 = dktJ18_numberOfLeadingZeros_2 := dk_seg dksJ18_numberOfLeadingZeros_1 24 rfl rfl
theorem dksJ18_numberOfLeadingZeros_3 : cJ18_numberOfLeadingZeros.data.toList.drop 70 = dktJ18_numberOfLeadingZeros_3 := dk_seg dksJ18_numberOfLeadingZeros_2 24 rfl rfl
theorem dJ18_numberOfLeadingZeros_0 : decode cJ18_numberOfLeadingZeros 0 = .ok (.iload_n 0, 1) := dk_26 (dk_at dksJ18_numberOfLeadingZeros_0 0 rfl rfl)
theorem dJ18_numberOfLeadingZeros_1 : decode cJ18_numberOfLeadingZeros 1 = .ok (.ifCond .gt 14, 3) := dk_157 0 14 (dk_at dksJ18_numberOfLeadingZeros_0 1 rfl rfl)
theorem dJ18_numberOfLeadingZeros_4 : decode cJ18_numberOfLeadingZeros 4 = .ok (.iload_n 0, 1) := dk_26 (dk_at dksJ18_numberOfLeadingZeros_0 4 rfl rfl)
theorem dJ18_numberOfLeadingZeros_5 : decode cJ18_numberOfLeadingZeros 5 = .ok (.ifCond .ne 8, 3) := dk_154 0 8 (dk_at dksJ18_numberOfLeadingZeros_0 5 rfl rfl)
theorem dJ18_numberOfLeadingZeros_8 : decode cJ18_numberOfLeadingZeros 8 = .ok (.bipush 32, 2) := dk_16 32 (dk_at dksJ18_numberOfLeadingZeros_0 8 rfl rfl)
theorem dJ18_numberOfLeadingZeros_10 : decode cJ18_numberOfLeadingZeros 10 = .ok (.goto 4, 3) := dk_167 0 4 (dk_at dksJ18_numberOfLeadingZeros_0 10 rfl rfl)
theorem dJ18_numberOfLeadingZeros_13 : decode cJ18_numberOfLeadingZeros 13 = .ok (.iconst 0, 1) := dk_3 (dk_at dksJ18_numberOfLeadingZeros_0 13 rfl rfl)
theorem dJ18_numberOfLeadingZeros_14 : decode cJ18_numberOfLeadingZeros 14 = .ok (.ireturn, 1) := dk_172 (dk_at dksJ18_numberOfLeadingZeros_0 14 rfl rfl)
theorem dJ18_numberOfLeadingZeros_15 : decode cJ18_numberOfLeadingZeros 15 = .ok (.bipush 31, 2) := dk_16 31 (dk_at dksJ18_numberOfLeadingZeros_0 15 rfl rfl)
theorem dJ18_numberOfLeadingZeros_17 : decode cJ18_numberOfLeadingZeros 17 = .ok (.istore_n 1, 1) := dk_60 (dk_at dksJ18_numberOfLeadingZeros_0 17 rfl rfl)
theorem dJ18_numberOfLeadingZeros_18 : decode cJ18_numberOfLeadingZeros 18 = .ok (.iload_n 0, 1) := dk_26 (dk_at dksJ18_numberOfLeadingZeros_0 18 rfl rfl)
theorem dJ18_numberOfLeadingZeros_19 : decode cJ18_numberOfLeadingZeros 19 = .ok (.ldc_w 264, 3) := dk_19 1 8 (dk_at dksJ18_numberOfLeadingZeros_0 19 rfl rfl)
theorem dJ18_numberOfLeadingZeros_22 : decode cJ18_numberOfLeadingZeros 22 = .ok (.if_icmp .lt 11, 3) := dk_161 0 11 (dk_at dksJ18_numberOfLeadingZeros_1 0 rfl rfl)
theorem dJ18_numberOfLeadingZeros_25 : decode cJ18_numberOfLeadingZeros 25 = .ok (.iinc 1 (-16), 3) := dk_132 1 240 (dk_at dksJ18_numberOfLeadingZeros_1 3 rfl rfl)
theorem dJ18_numberOfLeadingZeros_28 : decode cJ18_numberOfLeadingZeros 28 = .ok (.iload_n 0, 1) := dk_26 (dk_at dksJ18_numberOfLeadingZeros_1 6 rfl rfl)
theorem dJ18_numberOfLeadingZeros_29 : decode cJ18_numberOfLeadingZeros 29 = .ok (.bipush 16, 2) := dk_16 16 (dk_at dksJ18_numberOfLeadingZeros_1 7 rfl rfl)
theorem dJ18_numberOfLeadingZeros_31 : decode cJ18_numberOfLeadingZeros 31 = .ok (.iushr, 1) := dk_124 (dk_at dksJ18_numberOfLeadingZeros_1 9 rfl rfl)
theorem dJ18_numberOfLeadingZeros_32 : decode cJ18_numberOfLeadingZeros 32 = .ok (.istore_n 0, 1) := dk_59 (dk_at dksJ18_numberOfLeadingZeros_1 10 rfl rfl)
theorem dJ18_numberOfLeadingZeros_33 : decode cJ18_numberOfLeadingZeros 33 = .ok (.iload_n 0, 1) := dk_26 (dk_at dksJ18_numberOfLeadingZeros_1 11 rfl rfl)
theorem dJ18_numberOfLeadingZeros_34 : decode cJ18_numberOfLeadingZeros 34 = .ok (.sipush 256, 3) := dk_17 1 0 (dk_at dksJ18_numberOfLeadingZeros_1 12 rfl rfl)
theorem dJ18_numberOfLeadingZeros_37 : decode cJ18_numberOfLeadingZeros 37 = .ok (.if_icmp .lt 11, 3) := dk_161 0 11 (dk_at dksJ18_numberOfLeadingZeros_1 15 rfl rfl)
theorem dJ18_numberOfLeadingZeros_40 : decode cJ18_numberOfLeadingZeros 40 = .ok (.iinc 1 (-8), 3) := dk_132 1 248 (dk_at dksJ18_numberOfLeadingZeros_1 18 rfl rfl)
theorem dJ18_numberOfLeadingZeros_43 : decode cJ18_numberOfLeadingZeros 43 = .ok (.iload_n 0, 1) := dk_26 (dk_at dksJ18_numberOfLeadingZeros_1 21 rfl rfl)
theorem dJ18_numberOfLeadingZeros_44 : decode cJ18_numberOfLeadingZeros 44 = .ok (.bipush 8, 2) := dk_16 8 (dk_at dksJ18_numberOfLeadingZeros_1 22 rfl rfl)
theorem dJ18_numberOfLeadingZeros_46 : decode cJ18_numberOfLeadingZeros 46 = .ok (.iushr, 1) := dk_124 (dk_at dksJ18_numberOfLeadingZeros_2 0 rfl rfl)
theorem dJ18_numberOfLeadingZeros_47 : decode cJ18_numberOfLeadingZeros 47 = .ok (.istore_n 0, 1) := dk_59 (dk_at dksJ18_numberOfLeadingZeros_2 1 rfl rfl)
theorem dJ18_numberOfLeadingZeros_48 : decode cJ18_numberOfLeadingZeros 48 = .ok (.iload_n 0, 1) := dk_26 (dk_at dksJ18_numberOfLeadingZeros_2 2 rfl rfl)
theorem dJ18_numberOfLeadingZeros_49 : decode cJ18_numberOfLeadingZeros 49 = .ok (.bipush 16, 2) := dk_16 16 (dk_at dksJ18_numberOfLeadingZeros_2 3 rfl rfl)
theorem dJ18_numberOfLeadingZeros_51 : decode cJ18_numberOfLeadingZeros 51 = .ok (.if_icmp .lt 10, 3) := dk_161 0 10 (dk_at dksJ18_numberOfLeadingZeros_2 5 rfl rfl)
theorem dJ18_numberOfLeadingZeros_54 : decode cJ18_numberOfLeadingZeros 54 = .ok (.iinc 1 (-4), 3) := dk_132 1 252 (dk_at dksJ18_numberOfLeadingZeros_2 8 rfl rfl)
theorem dJ18_numberOfLeadingZeros_57 : decode cJ18_numberOfLeadingZeros 57 = .ok (.iload_n 0, 1) := dk_26 (dk_at dksJ18_numberOfLeadingZeros_2 11 rfl rfl)
theorem dJ18_numberOfLeadingZeros_58 : decode cJ18_numberOfLeadingZeros 58 = .ok (.iconst 4, 1) := dk_7 (dk_at dksJ18_numberOfLeadingZeros_2 12 rfl rfl)
theorem dJ18_numberOfLeadingZeros_59 : decode cJ18_numberOfLeadingZeros 59 = .ok (.iushr, 1) := dk_124 (dk_at dksJ18_numberOfLeadingZeros_2 13 rfl rfl)
theorem dJ18_numberOfLeadingZeros_60 : decode cJ18_numberOfLeadingZeros 60 = .ok (.istore_n 0, 1) := dk_59 (dk_at dksJ18_numberOfLeadingZeros_2 14 rfl rfl)
theorem dJ18_numberOfLeadingZeros_61 : decode cJ18_numberOfLeadingZeros 61 = .ok (.iload_n 0, 1) := dk_26 (dk_at dksJ18_numberOfLeadingZeros_2 15 rfl rfl)
theorem dJ18_numberOfLeadingZeros_62 : decode cJ18_numberOfLeadingZeros 62 = .ok (.iconst 4, 1) := dk_7 (dk_at dksJ18_numberOfLeadingZeros_2 16 rfl rfl)
theorem dJ18_numberOfLeadingZeros_63 : decode cJ18_numberOfLeadingZeros 63 = .ok (.if_icmp .lt 10, 3) := dk_161 0 10 (dk_at dksJ18_numberOfLeadingZeros_2 17 rfl rfl)
theorem dJ18_numberOfLeadingZeros_66 : decode cJ18_numberOfLeadingZeros 66 = .ok (.iinc 1 (-2), 3) := dk_132 1 254 (dk_at dksJ18_numberOfLeadingZeros_2 20 rfl rfl)
theorem dJ18_numberOfLeadingZeros_69 : decode cJ18_numberOfLeadingZeros 69 = .ok (.iload_n 0, 1) := dk_26 (dk_at dksJ18_numberOfLeadingZeros_2 23 rfl rfl)
theorem dJ18_numberOfLeadingZeros_70 : decode cJ18_numberOfLeadingZeros 70 = .ok (.iconst 2, 1) := dk_5 (dk_at dksJ18_numberOfLeadingZeros_3 0 rfl rfl)
theorem dJ18_numberOfLeadingZeros_71 : decode cJ18_numberOfLeadingZeros 71 = .ok (.iushr, 1) := dk_124 (dk_at dksJ18_numberOfLeadingZeros_3 1 rfl rfl)
theorem dJ18_numberOfLeadingZeros_72 : decode cJ18_numberOfLeadingZeros 72 = .ok (.istore_n 0, 1) := dk_59 (dk_at dksJ18_numberOfLeadingZeros_3 2 rfl rfl)
theorem dJ18_numberOfLeadingZeros_73 : decode cJ18_numberOfLeadingZeros 73 = .ok (.iload_n 1, 1) := dk_27 (dk_at dksJ18_numberOfLeadingZeros_3 3 rfl rfl)
theorem dJ18_numberOfLeadingZeros_74 : decode cJ18_numberOfLeadingZeros 74 = .ok (.iload_n 0, 1) := dk_26 (dk_at dksJ18_numberOfLeadingZeros_3 4 rfl rfl)
theorem dJ18_numberOfLeadingZeros_75 : decode cJ18_numberOfLeadingZeros 75 = .ok (.iconst 1, 1) := dk_4 (dk_at dksJ18_numberOfLeadingZeros_3 5 rfl rfl)
theorem dJ18_numberOfLeadingZeros_76 : decode cJ18_numberOfLeadingZeros 76 = .ok (.iushr, 1) := dk_124 (dk_at dksJ18_numberOfLeadingZeros_3 6 rfl rfl)
theorem dJ18_numberOfLeadingZeros_77 : decode cJ18_numberOfLeadingZeros 77 = .ok (.isub, 1) := dk_100 (dk_at dksJ18_numberOfLeadingZeros_3 7 rfl rfl)
theorem dJ18_numberOfLeadingZeros_78 : decode cJ18_numberOfLeadingZeros 78 = .ok (.ireturn, 1) := dk_172 (dk_at dksJ18_numberOfLeadingZeros_3 8 rfl rfl)
abbrev cJ18_compare : ByteArray := prog_22_method_40_code
def yJ18_compare : MethodName := ⟨RJ18, "compare", "(II)I"⟩
def dkwJ18_compare_0 : List UInt8 := [26, 27, 162, 0, 7, 2, 167, 0, 13, 26, 27, 160, 0, 7, 3, 167, 0, 4, 4, 172]
abbrev dktJ18_compare_0 : List UInt8 := dkwJ18_compare_0 ++ []
theorem dksJ18_compare_0 : cJ18_compare.data.toList.drop 0 = dktJ18_compare_0 := by decide +kernel
theorem dJ18_compare_0 : decode cJ18_compare 0 = .ok (.iload_n 0, 1) := dk_26 (dk_at dksJ18_compare_0 0 rfl rfl)
theorem dJ18_compare_1 : decode cJ18_compare 1 = .ok (.iload_n 1, 1) := dk_27 (dk_at dksJ18_compare_0 1 rfl rfl)
theorem dJ18_compare_2 : decode cJ18_compare 2 = .ok (.if_icmp .ge 7, 3) := dk_162 0 7 (dk_at dksJ18_compare_0 2 rfl rfl)
theorem dJ18_compare_5 : decode cJ18_compare 5 = .ok (.iconst (-1), 1) := dk_2 (dk_at dksJ18_compare_0 5 rfl rfl)
theorem dJ18_compare_6 : decode cJ18_compare 6 = .ok (.goto 13, 3) := dk_167 0 13 (dk_at dksJ18_compare_0 6 rfl rfl)
theorem dJ18_compare_9 : decode cJ18_compare 9 = .ok (.iload_n 0, 1) := dk_26 (dk_at dksJ18_compare_0 9 rfl rfl)
theorem dJ18_compare_10 : decode cJ18_compare 10 = .ok (.iload_n 1, 1) := dk_27 (dk_at dksJ18_compare_0 10 rfl rfl)
theorem dJ18_compare_11 : decode cJ18_compare 11 = .ok (.if_icmp .ne 7, 3) := dk_160 0 7 (dk_at dksJ18_compare_0 11 rfl rfl)
theorem dJ18_compare_14 : decode cJ18_compare 14 = .ok (.iconst 0, 1) := dk_3 (dk_at dksJ18_compare_0 14 rfl rfl)
theorem dJ18_compare_15 : decode cJ18_compare 15 = .ok (.goto 4, 3) := dk_167 0 4 (dk_at dksJ18_compare_0 15 rfl rfl)
theorem dJ18_compare_18 : decode cJ18_compare 18 = .ok (.iconst 1, 1) := dk_4 (dk_at dksJ18_compare_0 18 rfl rfl)
theorem dJ18_compare_19 : decode cJ18_compare 19 = .ok (.ireturn, 1) := dk_172 (dk_at dksJ18_compare_0 19 rfl rfl)
abbrev cJ18_intValue : ByteArray := prog_22_method_27_code
def yJ18_intValue : MethodName := ⟨RJ18, "intValue", "()I"⟩
theorem dJ18_intValue_0 : decode cJ18_intValue 0 = .ok (.aload_n 0, 1) := by decide +kernel
theorem dJ18_intValue_1 : decode cJ18_intValue 1 = .ok (.getfield 205, 3) := by decide +kernel
theorem dJ18_intValue_4 : decode cJ18_intValue 4 = .ok (.ireturn, 1) := by decide +kernel
abbrev cJ18_valueOf : ByteArray := prog_22_method_22_code
def yJ18_valueOf : MethodName := ⟨RJ18, "valueOf", "(I)Ljava/lang/Integer;"⟩
def dkwJ18_valueOf_1 : List UInt8 := [187, 0, 1, 89, 26, 183, 0, 199, 176]
abbrev dktJ18_valueOf_1 : List UInt8 := dkwJ18_valueOf_1 ++ []
def dkwJ18_valueOf_0 : List UInt8 := [26, 16, 128, 161, 0, 20, 26, 178, 0, 191, 163, 0, 13, 178, 0, 195, 26, 17, 0, 128, 96, 50, 176]
abbrev dktJ18_valueOf_0 : List UInt8 := dkwJ18_valueOf_0 ++ dktJ18_valueOf_1
theorem dksJ18_valueOf_0 : cJ18_valueOf.data.toList.drop 0 = dktJ18_valueOf_0 := by decide +kernel
theorem dksJ18_valueOf_1 : cJ18_valueOf.data.toList.drop 23 = dktJ18_valueOf_1 := dk_seg dksJ18_valueOf_0 23 rfl rfl
theorem dJ18_valueOf_0 : decode cJ18_valueOf 0 = .ok (.iload_n 0, 1) := dk_26 (dk_at dksJ18_valueOf_0 0 rfl rfl)
theorem dJ18_valueOf_1 : decode cJ18_valueOf 1 = .ok (.bipush (-128), 2) := dk_16 128 (dk_at dksJ18_valueOf_0 1 rfl rfl)
theorem dJ18_valueOf_3 : decode cJ18_valueOf 3 = .ok (.if_icmp .lt 20, 3) := dk_161 0 20 (dk_at dksJ18_valueOf_0 3 rfl rfl)
theorem dJ18_valueOf_6 : decode cJ18_valueOf 6 = .ok (.iload_n 0, 1) := dk_26 (dk_at dksJ18_valueOf_0 6 rfl rfl)
theorem dJ18_valueOf_7 : decode cJ18_valueOf 7 = .ok (.getstatic 191, 3) := dk_178 0 191 (dk_at dksJ18_valueOf_0 7 rfl rfl)
theorem dJ18_valueOf_10 : decode cJ18_valueOf 10 = .ok (.if_icmp .gt 13, 3) := dk_163 0 13 (dk_at dksJ18_valueOf_0 10 rfl rfl)
theorem dJ18_valueOf_13 : decode cJ18_valueOf 13 = .ok (.getstatic 195, 3) := dk_178 0 195 (dk_at dksJ18_valueOf_0 13 rfl rfl)
theorem dJ18_valueOf_16 : decode cJ18_valueOf 16 = .ok (.iload_n 0, 1) := dk_26 (dk_at dksJ18_valueOf_0 16 rfl rfl)
theorem dJ18_valueOf_17 : decode cJ18_valueOf 17 = .ok (.sipush 128, 3) := dk_17 0 128 (dk_at dksJ18_valueOf_0 17 rfl rfl)
theorem dJ18_valueOf_20 : decode cJ18_valueOf 20 = .ok (.iadd, 1) := dk_96 (dk_at dksJ18_valueOf_0 20 rfl rfl)
theorem dJ18_valueOf_21 : decode cJ18_valueOf 21 = .ok (.aaload, 1) := dk_50 (dk_at dksJ18_valueOf_0 21 rfl rfl)
theorem dJ18_valueOf_22 : decode cJ18_valueOf 22 = .ok (.areturn, 1) := dk_176 (dk_at dksJ18_valueOf_0 22 rfl rfl)
theorem dJ18_valueOf_23 : decode cJ18_valueOf 23 = .ok (.new 1, 3) := dk_187 0 1 (dk_at dksJ18_valueOf_1 0 rfl rfl)
theorem dJ18_valueOf_26 : decode cJ18_valueOf 26 = .ok (.dup, 1) := dk_89 (dk_at dksJ18_valueOf_1 3 rfl rfl)
theorem dJ18_valueOf_27 : decode cJ18_valueOf 27 = .ok (.iload_n 0, 1) := dk_26 (dk_at dksJ18_valueOf_1 4 rfl rfl)
theorem dJ18_valueOf_28 : decode cJ18_valueOf 28 = .ok (.invokespecial 199, 3) := dk_183 0 199 (dk_at dksJ18_valueOf_1 5 rfl rfl)
theorem dJ18_valueOf_31 : decode cJ18_valueOf 31 = .ok (.areturn, 1) := dk_176 (dk_at dksJ18_valueOf_1 8 rfl rfl)
abbrev cJ18_init : ByteArray := prog_22_method_23_code
def yJ18_init : MethodName := ⟨RJ18, "<init>", "(I)V"⟩
def dkwJ18_init_0 : List UInt8 := [42, 183, 0, 202, 42, 27, 181, 0, 205, 177]
abbrev dktJ18_init_0 : List UInt8 := dkwJ18_init_0 ++ []
theorem dksJ18_init_0 : cJ18_init.data.toList.drop 0 = dktJ18_init_0 := by decide +kernel
theorem dJ18_init_0 : decode cJ18_init 0 = .ok (.aload_n 0, 1) := dk_42 (dk_at dksJ18_init_0 0 rfl rfl)
theorem dJ18_init_1 : decode cJ18_init 1 = .ok (.invokespecial 202, 3) := dk_183 0 202 (dk_at dksJ18_init_0 1 rfl rfl)
theorem dJ18_init_4 : decode cJ18_init 4 = .ok (.aload_n 0, 1) := dk_42 (dk_at dksJ18_init_0 4 rfl rfl)
theorem dJ18_init_5 : decode cJ18_init 5 = .ok (.iload_n 1, 1) := dk_27 (dk_at dksJ18_init_0 5 rfl rfl)
theorem dJ18_init_6 : decode cJ18_init 6 = .ok (.putfield 205, 3) := dk_181 0 205 (dk_at dksJ18_init_0 6 rfl rfl)
theorem dJ18_init_9 : decode cJ18_init 9 = .ok (.return_, 1) := dk_177 (dk_at dksJ18_init_0 9 rfl rfl)
abbrev cJ18_bitCount : ByteArray := prog_22_method_49_code
def yJ18_bitCount : MethodName := ⟨RJ18, "bitCount", "(I)I"⟩
def dkwJ18_bitCount_2 : List UInt8 := [26, 16, 63, 126, 172]
abbrev dktJ18_bitCount_2 : List UInt8 := dkwJ18_bitCount_2 ++ []
def dkwJ18_bitCount_1 : List UInt8 := [26, 26, 7, 124, 96, 19, 1, 11, 126, 59, 26, 26, 16, 8, 124, 96, 59, 26, 26, 16, 16, 124, 96, 59]
abbrev dktJ18_bitCount_1 : List UInt8 := dkwJ18_bitCount_1 ++ dktJ18_bitCount_2
def dkwJ18_bitCount_0 : List UInt8 := [26, 26, 4, 124, 19, 1, 9, 126, 100, 59, 26, 19, 1, 10, 126, 26, 5, 124, 19, 1, 10, 126, 96, 59]
abbrev dktJ18_bitCount_0 : List UInt8 := dkwJ18_bitCount_0 ++ dktJ18_bitCount_1
theorem dksJ18_bitCount_0 : cJ18_bitCount.data.toList.drop 0 = dktJ18_bitCount_0 := by decide +kernel
theorem dksJ18_bitCount_1 : cJ18_bitCount.data.toList.drop 24 = dktJ18_bitCount_1 := dk_seg dksJ18_bitCount_0 24 rfl rfl
theorem dksJ18_bitCount_2 : cJ18_bitCount.data.toList.drop 48 = dktJ18_bitCount_2 := dk_seg dksJ18_bitCount_1 24 rfl rfl
theorem dJ18_bitCount_0 : decode cJ18_bitCount 0 = .ok (.iload_n 0, 1) := dk_26 (dk_at dksJ18_bitCount_0 0 rfl rfl)
theorem dJ18_bitCount_1 : decode cJ18_bitCount 1 = .ok (.iload_n 0, 1) := dk_26 (dk_at dksJ18_bitCount_0 1 rfl rfl)
theorem dJ18_bitCount_2 : decode cJ18_bitCount 2 = .ok (.iconst 1, 1) := dk_4 (dk_at dksJ18_bitCount_0 2 rfl rfl)
theorem dJ18_bitCount_3 : decode cJ18_bitCount 3 = .ok (.iushr, 1) := dk_124 (dk_at dksJ18_bitCount_0 3 rfl rfl)
theorem dJ18_bitCount_4 : decode cJ18_bitCount 4 = .ok (.ldc_w 265, 3) := dk_19 1 9 (dk_at dksJ18_bitCount_0 4 rfl rfl)
theorem dJ18_bitCount_7 : decode cJ18_bitCount 7 = .ok (.iand, 1) := dk_126 (dk_at dksJ18_bitCount_0 7 rfl rfl)
theorem dJ18_bitCount_8 : decode cJ18_bitCount 8 = .ok (.isub, 1) := dk_100 (dk_at dksJ18_bitCount_0 8 rfl rfl)
theorem dJ18_bitCount_9 : decode cJ18_bitCount 9 = .ok (.istore_n 0, 1) := dk_59 (dk_at dksJ18_bitCount_0 9 rfl rfl)
theorem dJ18_bitCount_10 : decode cJ18_bitCount 10 = .ok (.iload_n 0, 1) := dk_26 (dk_at dksJ18_bitCount_0 10 rfl rfl)
theorem dJ18_bitCount_11 : decode cJ18_bitCount 11 = .ok (.ldc_w 266, 3) := dk_19 1 10 (dk_at dksJ18_bitCount_0 11 rfl rfl)
theorem dJ18_bitCount_14 : decode cJ18_bitCount 14 = .ok (.iand, 1) := dk_126 (dk_at dksJ18_bitCount_0 14 rfl rfl)
theorem dJ18_bitCount_15 : decode cJ18_bitCount 15 = .ok (.iload_n 0, 1) := dk_26 (dk_at dksJ18_bitCount_0 15 rfl rfl)
theorem dJ18_bitCount_16 : decode cJ18_bitCount 16 = .ok (.iconst 2, 1) := dk_5 (dk_at dksJ18_bitCount_0 16 rfl rfl)
theorem dJ18_bitCount_17 : decode cJ18_bitCount 17 = .ok (.iushr, 1) := dk_124 (dk_at dksJ18_bitCount_0 17 rfl rfl)
theorem dJ18_bitCount_18 : decode cJ18_bitCount 18 = .ok (.ldc_w 266, 3) := dk_19 1 10 (dk_at dksJ18_bitCount_0 18 rfl rfl)
theorem dJ18_bitCount_21 : decode cJ18_bitCount 21 = .ok (.iand, 1) := dk_126 (dk_at dksJ18_bitCount_0 21 rfl rfl)
theorem dJ18_bitCount_22 : decode cJ18_bitCount 22 = .ok (.iadd, 1) := dk_96 (dk_at dksJ18_bitCount_0 22 rfl rfl)
theorem dJ18_bitCount_23 : decode cJ18_bitCount 23 = .ok (.istore_n 0, 1) := dk_59 (dk_at dksJ18_bitCount_0 23 rfl rfl)
theorem dJ18_bitCount_24 : decode cJ18_bitCount 24 = .ok (.iload_n 0, 1) := dk_26 (dk_at dksJ18_bitCount_1 0 rfl rfl)
theorem dJ18_bitCount_25 : decode cJ18_bitCount 25 = .ok (.iload_n 0, 1) := dk_26 (dk_at dksJ18_bitCount_1 1 rfl rfl)
theorem dJ18_bitCount_26 : decode cJ18_bitCount 26 = .ok (.iconst 4, 1) := dk_7 (dk_at dksJ18_bitCount_1 2 rfl rfl)
theorem dJ18_bitCount_27 : decode cJ18_bitCount 27 = .ok (.iushr, 1) := dk_124 (dk_at dksJ18_bitCount_1 3 rfl rfl)
theorem dJ18_bitCount_28 : decode cJ18_bitCount 28 = .ok (.iadd, 1) := dk_96 (dk_at dksJ18_bitCount_1 4 rfl rfl)
theorem dJ18_bitCount_29 : decode cJ18_bitCount 29 = .ok (.ldc_w 267, 3) := dk_19 1 11 (dk_at dksJ18_bitCount_1 5 rfl rfl)
theorem dJ18_bitCount_32 : decode cJ18_bitCount 32 = .ok (.iand, 1) := dk_126 (dk_at dksJ18_bitCount_1 8 rfl rfl)
theorem dJ18_bitCount_33 : decode cJ18_bitCount 33 = .ok (.istore_n 0, 1) := dk_59 (dk_at dksJ18_bitCount_1 9 rfl rfl)
theorem dJ18_bitCount_34 : decode cJ18_bitCount 34 = .ok (.iload_n 0, 1) := dk_26 (dk_at dksJ18_bitCount_1 10 rfl rfl)
theorem dJ18_bitCount_35 : decode cJ18_bitCount 35 = .ok (.iload_n 0, 1) := dk_26 (dk_at dksJ18_bitCount_1 11 rfl rfl)
theorem dJ18_bitCount_36 : decode cJ18_bitCount 36 = .ok (.bipush 8, 2) := dk_16 8 (dk_at dksJ18_bitCount_1 12 rfl rfl)
theorem dJ18_bitCount_38 : decode cJ18_bitCount 38 = .ok (.iushr, 1) := dk_124 (dk_at dksJ18_bitCount_1 14 rfl rfl)
theorem dJ18_bitCount_39 : decode cJ18_bitCount 39 = .ok (.iadd, 1) := dk_96 (dk_at dksJ18_bitCount_1 15 rfl rfl)
theorem dJ18_bitCount_40 : decode cJ18_bitCount 40 = .ok (.istore_n 0, 1) := dk_59 (dk_at dksJ18_bitCount_1 16 rfl rfl)
theorem dJ18_bitCount_41 : decode cJ18_bitCount 41 = .ok (.iload_n 0, 1) := dk_26 (dk_at dksJ18_bitCount_1 17 rfl rfl)
theorem dJ18_bitCount_42 : decode cJ18_bitCount 42 = .ok (.iload_n 0, 1) := dk_26 (dk_at dksJ18_bitCount_1 18 rfl rfl)
theorem dJ18_bitCount_43 : decode cJ18_bitCount 43 = .ok (.bipush 16, 2) := dk_16 16 (dk_at dksJ18_bitCount_1 19 rfl rfl)
theorem dJ18_bitCount_45 : decode cJ18_bitCount 45 = .ok (.iushr, 1) := dk_124 (dk_at dksJ18_bitCount_1 21 rfl rfl)
theorem dJ18_bitCount_46 : decode cJ18_bitCount 46 = .ok (.iadd, 1) := dk_96 (dk_at dksJ18_bitCount_1 22 rfl rfl)
theorem dJ18_bitCount_47 : decode cJ18_bitCount 47 = .ok (.istore_n 0, 1) := dk_59 (dk_at dksJ18_bitCount_1 23 rfl rfl)
theorem dJ18_bitCount_48 : decode cJ18_bitCount 48 = .ok (.iload_n 0, 1) := dk_26 (dk_at dksJ18_bitCount_2 0 rfl rfl)
theorem dJ18_bitCount_49 : decode cJ18_bitCount 49 = .ok (.bipush 63, 2) := dk_16 63 (dk_at dksJ18_bitCount_2 1 rfl rfl)
theorem dJ18_bitCount_51 : decode cJ18_bitCount 51 = .ok (.iand, 1) := dk_126 (dk_at dksJ18_bitCount_2 3 rfl rfl)
theorem dJ18_bitCount_52 : decode cJ18_bitCount 52 = .ok (.ireturn, 1) := dk_172 (dk_at dksJ18_bitCount_2 4 rfl rfl)
theorem q122 : (Jvm.Cond.initialized "java/lang/Integer") ∈ lw_all := lw_g (lw_at lw_m1 25 rfl) rfl
theorem q630 : (Jvm.Cond.static ({ cls := "java/lang/Integer", name := "numberOfLeadingZeros", desc := "(I)I" } : Jvm.MethodName)) ∈ lw_all := lw_g (lw_at lw_m3 53 rfl) rfl
theorem q631 : (Jvm.Cond.code ({ cls := "java/lang/Integer", name := "numberOfLeadingZeros", desc := "(I)I" } : Jvm.MethodName) prog_22_method_47_code (2 : Nat) (Option.some Jvm.ClassFile.FieldType.int)) ∈ lw_all := lw_g (lw_at lw_m3 54 rfl) rfl
theorem q632 : (Jvm.Cond.constant "java/lang/Integer" (264 : Nat) (65536 : Int32)) ∈ lw_all := lw_g (lw_at lw_m3 55 rfl) rfl
theorem q931 : (Jvm.Cond.selects "java/lang/Integer" ({ cls := "java/lang/Object", name := "hashCode", desc := "()I" } : Jvm.MethodName) ({ cls := "java/lang/Integer", name := "hashCode", desc := "()I" } : Jvm.MethodName)) ∈ lw_all := lw_g (lw_at lw_m4 114 rfl) rfl
theorem q932 : (Jvm.Cond.instanceMethod ({ cls := "java/lang/Integer", name := "hashCode", desc := "()I" } : Jvm.MethodName)) ∈ lw_all := lw_g (lw_at lw_m4 115 rfl) rfl
theorem q933 : (Jvm.Cond.code ({ cls := "java/lang/Integer", name := "hashCode", desc := "()I" } : Jvm.MethodName) prog_22_method_32_code (1 : Nat) (Option.some Jvm.ClassFile.FieldType.int)) ∈ lw_all := lw_g (lw_at lw_m4 116 rfl) rfl
theorem q934 : (Jvm.Cond.methodLink "java/lang/Integer" (208 : Nat) ({ cls := "java/lang/Integer", name := "hashCode", desc := "(I)I" } : Jvm.MethodName)) ∈ lw_all := lw_g (lw_at lw_m4 117 rfl) rfl
theorem q935 : (Jvm.Cond.static ({ cls := "java/lang/Integer", name := "hashCode", desc := "(I)I" } : Jvm.MethodName)) ∈ lw_all := lw_g (lw_at lw_m4 118 rfl) rfl
theorem q936 : (Jvm.Cond.code ({ cls := "java/lang/Integer", name := "hashCode", desc := "(I)I" } : Jvm.MethodName) prog_22_method_33_code (1 : Nat) (Option.some Jvm.ClassFile.FieldType.int)) ∈ lw_all := lw_g (lw_at lw_m4 119 rfl) rfl
theorem q1114 : (Jvm.Cond.selects "java/lang/Integer" ({ cls := "java/lang/Object", name := "getClass", desc := "()Ljava/lang/Class;" } : Jvm.MethodName) ({ cls := "java/lang/Object", name := "getClass", desc := "()Ljava/lang/Class;" } : Jvm.MethodName)) ∈ lw_all := lw_g (lw_at lw_m5 57 rfl) rfl
theorem q1158 : (Jvm.Cond.static ({ cls := "java/lang/Integer", name := "compare", desc := "(II)I" } : Jvm.MethodName)) ∈ lw_all := lw_g (lw_at lw_m5 101 rfl) rfl
theorem q1159 : (Jvm.Cond.code ({ cls := "java/lang/Integer", name := "compare", desc := "(II)I" } : Jvm.MethodName) prog_22_method_40_code (2 : Nat) (Option.some Jvm.ClassFile.FieldType.int)) ∈ lw_all := lw_g (lw_at lw_m5 102 rfl) rfl
theorem q1160 : (Jvm.Cond.castable "java/lang/Integer" "java/lang/Comparable") ∈ lw_tbl := lw_at lw_m5 103 rfl
theorem q1161 : (Jvm.Cond.selects "java/lang/Integer" ({ cls := "java/lang/Comparable", name := "compareTo", desc := "(Ljava/lang/Object;)I" } : Jvm.MethodName) ({ cls := "java/lang/Integer", name := "compareTo", desc := "(Ljava/lang/Object;)I" } : Jvm.MethodName)) ∈ lw_all := lw_g (lw_at lw_m5 104 rfl) rfl
theorem q1162 : (Jvm.Cond.unhidden "java/lang/Integer" "compareTo" "(Ljava/lang/Object;)I") ∈ lw_tbl := lw_at lw_m5 105 rfl
theorem q1163 : (Jvm.Cond.instanceMethod ({ cls := "java/lang/Integer", name := "compareTo", desc := "(Ljava/lang/Object;)I" } : Jvm.MethodName)) ∈ lw_all := lw_g (lw_at lw_m5 106 rfl) rfl
theorem q1164 : (Jvm.Cond.publicMethod ({ cls := "java/lang/Integer", name := "compareTo", desc := "(Ljava/lang/Object;)I" } : Jvm.MethodName)) ∈ lw_tbl := lw_at lw_m5 107 rfl
theorem q1165 : (Jvm.Cond.code ({ cls := "java/lang/Integer", name := "compareTo", desc := "(Ljava/lang/Object;)I" } : Jvm.MethodName) prog_22_method_63_code (2 : Nat) (Option.some Jvm.ClassFile.FieldType.int)) ∈ lw_all := lw_g (lw_at lw_m5 108 rfl) rfl
theorem q1166 : (Jvm.Cond.classLink "java/lang/Integer" (1 : Nat) "java/lang/Integer") ∈ lw_all := lw_g (lw_at lw_m5 109 rfl) rfl
theorem q1167 : (Jvm.Cond.methodLink "java/lang/Integer" (284 : Nat) ({ cls := "java/lang/Integer", name := "compareTo", desc := "(Ljava/lang/Integer;)I" } : Jvm.MethodName)) ∈ lw_all := lw_g (lw_at lw_m5 110 rfl) rfl
theorem q1168 : (Jvm.Cond.instanceMethod ({ cls := "java/lang/Integer", name := "compareTo", desc := "(Ljava/lang/Integer;)I" } : Jvm.MethodName)) ∈ lw_all := lw_g (lw_at lw_m5 111 rfl) rfl
theorem q1169 : (Jvm.Cond.selects "java/lang/Integer" ({ cls := "java/lang/Integer", name := "compareTo", desc := "(Ljava/lang/Integer;)I" } : Jvm.MethodName) ({ cls := "java/lang/Integer", name := "compareTo", desc := "(Ljava/lang/Integer;)I" } : Jvm.MethodName)) ∈ lw_all := lw_g (lw_at lw_m5 112 rfl) rfl
theorem q1170 : (Jvm.Cond.code ({ cls := "java/lang/Integer", name := "compareTo", desc := "(Ljava/lang/Integer;)I" } : Jvm.MethodName) prog_22_method_39_code (2 : Nat) (Option.some Jvm.ClassFile.FieldType.int)) ∈ lw_all := lw_g (lw_at lw_m5 113 rfl) rfl
theorem q1171 : (Jvm.Cond.methodLink "java/lang/Integer" (259 : Nat) ({ cls := "java/lang/Integer", name := "compare", desc := "(II)I" } : Jvm.MethodName)) ∈ lw_all := lw_g (lw_at lw_m5 114 rfl) rfl
theorem q1274 : (Jvm.Cond.static ({ cls := "java/lang/Integer", name := "numberOfTrailingZeros", desc := "(I)I" } : Jvm.MethodName)) ∈ lw_all := lw_g (lw_at lw_m5 217 rfl) rfl
theorem q1275 : (Jvm.Cond.code ({ cls := "java/lang/Integer", name := "numberOfTrailingZeros", desc := "(I)I" } : Jvm.MethodName) prog_22_method_48_code (2 : Nat) (Option.some Jvm.ClassFile.FieldType.int)) ∈ lw_all := lw_g (lw_at lw_m5 218 rfl) rfl
theorem q1406 : (Jvm.Cond.selects "java/lang/Integer" ({ cls := "java/lang/Object", name := "equals", desc := "(Ljava/lang/Object;)Z" } : Jvm.MethodName) ({ cls := "java/lang/Integer", name := "equals", desc := "(Ljava/lang/Object;)Z" } : Jvm.MethodName)) ∈ lw_all := lw_g (lw_at lw_m6 109 rfl) rfl
theorem q1407 : (Jvm.Cond.instanceMethod ({ cls := "java/lang/Integer", name := "equals", desc := "(Ljava/lang/Object;)Z" } : Jvm.MethodName)) ∈ lw_all := lw_g (lw_at lw_m6 110 rfl) rfl
theorem q1408 : (Jvm.Cond.code ({ cls := "java/lang/Integer", name := "equals", desc := "(Ljava/lang/Object;)Z" } : Jvm.MethodName) prog_22_method_34_code (2 : Nat) (Option.some Jvm.ClassFile.FieldType.boolean)) ∈ lw_all := lw_g (lw_at lw_m6 111 rfl) rfl
theorem q1409 : (Jvm.Cond.methodLink "java/lang/Integer" (211 : Nat) ({ cls := "java/lang/Integer", name := "intValue", desc := "()I" } : Jvm.MethodName)) ∈ lw_all := lw_g (lw_at lw_m6 112 rfl) rfl
theorem q1410 : (Jvm.Cond.instanceMethod ({ cls := "java/lang/Integer", name := "intValue", desc := "()I" } : Jvm.MethodName)) ∈ lw_all := lw_g (lw_at lw_m6 113 rfl) rfl
theorem q1411 : (Jvm.Cond.selects "java/lang/Integer" ({ cls := "java/lang/Integer", name := "intValue", desc := "()I" } : Jvm.MethodName) ({ cls := "java/lang/Integer", name := "intValue", desc := "()I" } : Jvm.MethodName)) ∈ lw_all := lw_g (lw_at lw_m6 114 rfl) rfl
theorem q1412 : (Jvm.Cond.code ({ cls := "java/lang/Integer", name := "intValue", desc := "()I" } : Jvm.MethodName) prog_22_method_27_code (1 : Nat) (Option.some Jvm.ClassFile.FieldType.int)) ∈ lw_all := lw_g (lw_at lw_m6 115 rfl) rfl
theorem q1926 : (Jvm.Cond.static ({ cls := "java/lang/Integer", name := "valueOf", desc := "(I)Ljava/lang/Integer;" } : Jvm.MethodName)) ∈ lw_all := lw_g (lw_at lw_m8 149 rfl) rfl
theorem q1927 : (Jvm.Cond.code ({ cls := "java/lang/Integer", name := "valueOf", desc := "(I)Ljava/lang/Integer;" } : Jvm.MethodName) prog_22_method_22_code (1 : Nat) (Option.some (Jvm.ClassFile.FieldType.object "java/lang/Integer"))) ∈ lw_all := lw_g (lw_at lw_m8 150 rfl) rfl
theorem q1928 : (Jvm.Cond.fieldLink "java/lang/Integer" (191 : Nat) "java/lang/Integer$IntegerCache" "high" "I") ∈ lw_all := lw_g (lw_at lw_m8 151 rfl) rfl
theorem q1930 : (Jvm.Cond.fieldLink "java/lang/Integer" (195 : Nat) "java/lang/Integer$IntegerCache" "cache" "[Ljava/lang/Integer;") ∈ lw_all := lw_g (lw_at lw_m8 153 rfl) rfl
theorem q1932 : (Jvm.Cond.instantiable "java/lang/Integer" (1 : Nat)) ∈ lw_all := lw_g (lw_at lw_m8 155 rfl) rfl
theorem q1933 : (Jvm.Cond.methodLink "java/lang/Integer" (199 : Nat) ({ cls := "java/lang/Integer", name := "<init>", desc := "(I)V" } : Jvm.MethodName)) ∈ lw_all := lw_g (lw_at lw_m8 156 rfl) rfl
theorem q1934 : (Jvm.Cond.instanceMethod ({ cls := "java/lang/Integer", name := "<init>", desc := "(I)V" } : Jvm.MethodName)) ∈ lw_all := lw_g (lw_at lw_m8 157 rfl) rfl
theorem q1935 : (Jvm.Cond.code ({ cls := "java/lang/Integer", name := "<init>", desc := "(I)V" } : Jvm.MethodName) prog_22_method_23_code (2 : Nat) (Option.none : Option Jvm.ClassFile.FieldType)) ∈ lw_all := lw_g (lw_at lw_m8 158 rfl) rfl
theorem q1936 : (Jvm.Cond.methodLink "java/lang/Integer" (202 : Nat) ({ cls := "java/lang/Number", name := "<init>", desc := "()V" } : Jvm.MethodName)) ∈ lw_all := lw_g (lw_at lw_m8 159 rfl) rfl
theorem q1940 : (Jvm.Cond.fieldLink "java/lang/Integer" (205 : Nat) "java/lang/Integer" "value" "I") ∈ lw_all := lw_g (lw_at lw_m8 163 rfl) rfl
theorem q1941 : (Jvm.Cond.laysFinal "java/lang/Integer" "java/lang/Integer" "value" "I") ∈ lw_all := lw_g (lw_at lw_m8 164 rfl) rfl
theorem q1942 : (Jvm.Cond.soleField "java/lang/Integer" "value") ∈ lw_all := lw_g (lw_at lw_m8 165 rfl) rfl
theorem q1943 : (Jvm.Cond.superclass "java/lang/Integer" "java/lang/Number") ∈ lw_all := lw_g (lw_at lw_m8 166 rfl) rfl
theorem q2148 : (Jvm.Cond.static ({ cls := "java/lang/Integer", name := "bitCount", desc := "(I)I" } : Jvm.MethodName)) ∈ lw_all := lw_g (lw_at lw_m9 131 rfl) rfl
theorem q2149 : (Jvm.Cond.code ({ cls := "java/lang/Integer", name := "bitCount", desc := "(I)I" } : Jvm.MethodName) prog_22_method_49_code (1 : Nat) (Option.some Jvm.ClassFile.FieldType.int)) ∈ lw_all := lw_g (lw_at lw_m9 132 rfl) rfl
theorem q2150 : (Jvm.Cond.constant "java/lang/Integer" (265 : Nat) (1431655765 : Int32)) ∈ lw_all := lw_g (lw_at lw_m9 133 rfl) rfl
theorem q2151 : (Jvm.Cond.constant "java/lang/Integer" (266 : Nat) (858993459 : Int32)) ∈ lw_all := lw_g (lw_at lw_m9 134 rfl) rfl
theorem q2152 : (Jvm.Cond.constant "java/lang/Integer" (267 : Nat) (252645135 : Int32)) ∈ lw_all := lw_g (lw_at lw_m9 135 rfl) rfl
theorem q3195 : (Jvm.Cond.castable "java/lang/Integer" "java/lang/Object") ∈ lw_tbl := lw_at lw_m13 218 rfl
theorem in_J18 : ∀ w ∈ wsJ180, w ∈ lw_all := lw_in wsJ180 [1941] (by decide +kernel) (by decide +kernel)
/-! java/util/LinkedHashMap$LinkedHashIterator -/
set_option maxRecDepth 100000
def RJ22 : String := "java/util/LinkedHashMap$LinkedHashIterator"
abbrev cJ22_hasNext : ByteArray := prog_59_method_2_code
def yJ22_hasNext : MethodName := ⟨RJ22, "hasNext", "()Z"⟩
def dkwJ22_hasNext_0 : List UInt8 := [42, 180, 0, 26, 198, 0, 7, 4, 167, 0, 4, 3, 172]
abbrev dktJ22_hasNext_0 : List UInt8 := dkwJ22_hasNext_0 ++ []
theorem dksJ22_hasNext_0 : cJ22_hasNext.data.toList.drop 0 = dktJ22_hasNext_0 := by decide +kernel
theorem dJ22_hasNext_0 : decode cJ22_hasNext 0 = .ok (.aload_n 0, 1) := dk_42 (dk_at dksJ22_hasNext_0 0 rfl rfl)
theorem dJ22_hasNext_1 : decode cJ22_hasNext 1 = .ok (.getfield 26, 3) := dk_180 0 26 (dk_at dksJ22_hasNext_0 1 rfl rfl)
theorem dJ22_hasNext_4 : decode cJ22_hasNext 4 = .ok (.ifnull 7, 3) := dk_198 0 7 (dk_at dksJ22_hasNext_0 4 rfl rfl)
theorem dJ22_hasNext_7 : decode cJ22_hasNext 7 = .ok (.iconst 1, 1) := dk_4 (dk_at dksJ22_hasNext_0 7 rfl rfl)
theorem dJ22_hasNext_8 : decode cJ22_hasNext 8 = .ok (.goto 4, 3) := dk_167 0 4 (dk_at dksJ22_hasNext_0 8 rfl rfl)
theorem dJ22_hasNext_11 : decode cJ22_hasNext 11 = .ok (.iconst 0, 1) := dk_3 (dk_at dksJ22_hasNext_0 11 rfl rfl)
theorem dJ22_hasNext_12 : decode cJ22_hasNext 12 = .ok (.ireturn, 1) := dk_172 (dk_at dksJ22_hasNext_0 12 rfl rfl)
abbrev cJ22_nextNode : ByteArray := prog_59_method_3_code
def yJ22_nextNode : MethodName := ⟨RJ22, "nextNode", "()Ljava/util/LinkedHashMap$Entry;"⟩
def dkwJ22_nextNode_2 : List UInt8 := [180, 0, 13, 153, 0, 10, 43, 180, 0, 45, 167, 0, 7, 43, 180, 0, 50, 181, 0, 26, 43, 176]
abbrev dktJ22_nextNode_2 : List UInt8 := dkwJ22_nextNode_2 ++ []
def dkwJ22_nextNode_1 : List UInt8 := [183, 0, 41, 191, 43, 199, 0, 11, 187, 0, 42, 89, 183, 0, 44, 191, 42, 43, 181, 0, 36, 42, 42]
abbrev dktJ22_nextNode_1 : List UInt8 := dkwJ22_nextNode_1 ++ dktJ22_nextNode_2
def dkwJ22_nextNode_0 : List UInt8 := [42, 180, 0, 26, 76, 42, 180, 0, 1, 180, 0, 29, 42, 180, 0, 33, 159, 0, 11, 187, 0, 39, 89]
abbrev dktJ22_nextNode_0 : List UInt8 := dkwJ22_nextNode_0 ++ dktJ22_nextNode_1
theorem dksJ22_nextNode_0 : cJ22_nextNode.data.toList.drop 0 = dktJ22_nextNode_0 := by decide +kernel
theorem dksJ22_nextNode_1 : cJ22_nextNode.data.toList.drop 23 = dktJ22_nextNode_1 := dk_seg dksJ22_nextNode_0 23 rfl rfl
theorem dksJ22_nextNode_2 : cJ22_nextNode.data.toList.drop 46 = dktJ22_nextNode_2 := dk_seg dksJ22_nextNode_1 23 rfl rfl
theorem dJ22_nextNode_0 : decode cJ22_nextNode 0 = .ok (.aload_n 0, 1) := dk_42 (dk_at dksJ22_nextNode_0 0 rfl rfl)
theorem dJ22_nextNode_1 : decode cJ22_nextNode 1 = .ok (.getfield 26, 3) := dk_180 0 26 (dk_at dksJ22_nextNode_0 1 rfl rfl)
theorem dJ22_nextNode_4 : decode cJ22_nextNode 4 = .ok (.astore_n 1, 1) := dk_76 (dk_at dksJ22_nextNode_0 4 rfl rfl)
theorem dJ22_nextNode_5 : decode cJ22_nextNode 5 = .ok (.aload_n 0, 1) := dk_42 (dk_at dksJ22_nextNode_0 5 rfl rfl)
theorem dJ22_nextNode_6 : decode cJ22_nextNode 6 = .ok (.getfield 1, 3) := dk_180 0 1 (dk_at dksJ22_nextNode_0 6 rfl rfl)
theorem dJ22_nextNode_9 : decode cJ22_nextNode 9 = .ok (.getfield 29, 3) := dk_180 0 29 (dk_at dksJ22_nextNode_0 9 rfl rfl)
theorem dJ22_nextNode_12 : decode cJ22_nextNode 12 = .ok (.aload_n 0, 1) := dk_42 (dk_at dksJ22_nextNode_0 12 rfl rfl)
theorem dJ22_nextNode_13 : decode cJ22_nextNode 13 = .ok (.getfield 33, 3) := dk_180 0 33 (dk_at dksJ22_nextNode_0 13 rfl rfl)
theorem dJ22_nextNode_16 : decode cJ22_nextNode 16 = .ok (.if_icmp .eq 11, 3) := dk_159 0 11 (dk_at dksJ22_nextNode_0 16 rfl rfl)
theorem dJ22_nextNode_19 : decode cJ22_nextNode 19 = .ok (.new 39, 3) := dk_187 0 39 (dk_at dksJ22_nextNode_0 19 rfl rfl)
theorem dJ22_nextNode_22 : decode cJ22_nextNode 22 = .ok (.dup, 1) := dk_89 (dk_at dksJ22_nextNode_0 22 rfl rfl)
theorem dJ22_nextNode_23 : decode cJ22_nextNode 23 = .ok (.invokespecial 41, 3) := dk_183 0 41 (dk_at dksJ22_nextNode_1 0 rfl rfl)
theorem dJ22_nextNode_26 : decode cJ22_nextNode 26 = .ok (.athrow, 1) := dk_191 (dk_at dksJ22_nextNode_1 3 rfl rfl)
theorem dJ22_nextNode_27 : decode cJ22_nextNode 27 = .ok (.aload_n 1, 1) := dk_43 (dk_at dksJ22_nextNode_1 4 rfl rfl)
theorem dJ22_nextNode_28 : decode cJ22_nextNode 28 = .ok (.ifnonnull 11, 3) := dk_199 0 11 (dk_at dksJ22_nextNode_1 5 rfl rfl)
theorem dJ22_nextNode_31 : decode cJ22_nextNode 31 = .ok (.new 42, 3) := dk_187 0 42 (dk_at dksJ22_nextNode_1 8 rfl rfl)
theorem dJ22_nextNode_34 : decode cJ22_nextNode 34 = .ok (.dup, 1) := dk_89 (dk_at dksJ22_nextNode_1 11 rfl rfl)
theorem dJ22_nextNode_35 : decode cJ22_nextNode 35 = .ok (.invokespecial 44, 3) := dk_183 0 44 (dk_at dksJ22_nextNode_1 12 rfl rfl)
theorem dJ22_nextNode_38 : decode cJ22_nextNode 38 = .ok (.athrow, 1) := dk_191 (dk_at dksJ22_nextNode_1 15 rfl rfl)
theorem dJ22_nextNode_39 : decode cJ22_nextNode 39 = .ok (.aload_n 0, 1) := dk_42 (dk_at dksJ22_nextNode_1 16 rfl rfl)
theorem dJ22_nextNode_40 : decode cJ22_nextNode 40 = .ok (.aload_n 1, 1) := dk_43 (dk_at dksJ22_nextNode_1 17 rfl rfl)
theorem dJ22_nextNode_41 : decode cJ22_nextNode 41 = .ok (.putfield 36, 3) := dk_181 0 36 (dk_at dksJ22_nextNode_1 18 rfl rfl)
theorem dJ22_nextNode_44 : decode cJ22_nextNode 44 = .ok (.aload_n 0, 1) := dk_42 (dk_at dksJ22_nextNode_1 21 rfl rfl)
theorem dJ22_nextNode_45 : decode cJ22_nextNode 45 = .ok (.aload_n 0, 1) := dk_42 (dk_at dksJ22_nextNode_1 22 rfl rfl)
theorem dJ22_nextNode_46 : decode cJ22_nextNode 46 = .ok (.getfield 13, 3) := dk_180 0 13 (dk_at dksJ22_nextNode_2 0 rfl rfl)
theorem dJ22_nextNode_49 : decode cJ22_nextNode 49 = .ok (.ifCond .eq 10, 3) := dk_153 0 10 (dk_at dksJ22_nextNode_2 3 rfl rfl)
theorem dJ22_nextNode_52 : decode cJ22_nextNode 52 = .ok (.aload_n 1, 1) := dk_43 (dk_at dksJ22_nextNode_2 6 rfl rfl)
theorem dJ22_nextNode_53 : decode cJ22_nextNode 53 = .ok (.getfield 45, 3) := dk_180 0 45 (dk_at dksJ22_nextNode_2 7 rfl rfl)
theorem dJ22_nextNode_56 : decode cJ22_nextNode 56 = .ok (.goto 7, 3) := dk_167 0 7 (dk_at dksJ22_nextNode_2 10 rfl rfl)
theorem dJ22_nextNode_59 : decode cJ22_nextNode 59 = .ok (.aload_n 1, 1) := dk_43 (dk_at dksJ22_nextNode_2 13 rfl rfl)
theorem dJ22_nextNode_60 : decode cJ22_nextNode 60 = .ok (.getfield 50, 3) := dk_180 0 50 (dk_at dksJ22_nextNode_2 14 rfl rfl)
theorem dJ22_nextNode_63 : decode cJ22_nextNode 63 = .ok (.putfield 26, 3) := dk_181 0 26 (dk_at dksJ22_nextNode_2 17 rfl rfl)
theorem dJ22_nextNode_66 : decode cJ22_nextNode 66 = .ok (.aload_n 1, 1) := dk_43 (dk_at dksJ22_nextNode_2 20 rfl rfl)
theorem dJ22_nextNode_67 : decode cJ22_nextNode 67 = .ok (.areturn, 1) := dk_176 (dk_at dksJ22_nextNode_2 21 rfl rfl)
abbrev cJ22_init : ByteArray := prog_59_method_1_code
def yJ22_init : MethodName := ⟨RJ22, "<init>", "(Ljava/util/LinkedHashMap;Z)V"⟩
def dkwJ22_init_1 : List UInt8 := [167, 0, 7, 43, 180, 0, 23, 181, 0, 26, 42, 43, 180, 0, 29, 181, 0, 33, 42, 1, 181, 0, 36, 177]
abbrev dktJ22_init_1 : List UInt8 := dkwJ22_init_1 ++ []
def dkwJ22_init_0 : List UInt8 := [42, 43, 181, 0, 1, 42, 183, 0, 7, 42, 28, 181, 0, 13, 42, 28, 153, 0, 10, 43, 180, 0, 17]
abbrev dktJ22_init_0 : List UInt8 := dkwJ22_init_0 ++ dktJ22_init_1
theorem dksJ22_init_0 : cJ22_init.data.toList.drop 0 = dktJ22_init_0 := by decide +kernel
theorem dksJ22_init_1 : cJ22_init.data.toList.drop 23 = dktJ22_init_1 := dk_seg dksJ22_init_0 23 rfl rfl
theorem dJ22_init_0 : decode cJ22_init 0 = .ok (.aload_n 0, 1) := dk_42 (dk_at dksJ22_init_0 0 rfl rfl)
theorem dJ22_init_1 : decode cJ22_init 1 = .ok (.aload_n 1, 1) := dk_43 (dk_at dksJ22_init_0 1 rfl rfl)
theorem dJ22_init_2 : decode cJ22_init 2 = .ok (.putfield 1, 3) := dk_181 0 1 (dk_at dksJ22_init_0 2 rfl rfl)
theorem dJ22_init_5 : decode cJ22_init 5 = .ok (.aload_n 0, 1) := dk_42 (dk_at dksJ22_init_0 5 rfl rfl)
theorem dJ22_init_6 : decode cJ22_init 6 = .ok (.invokespecial 7, 3) := dk_183 0 7 (dk_at dksJ22_init_0 6 rfl rfl)
theorem dJ22_init_9 : decode cJ22_init 9 = .ok (.aload_n 0, 1) := dk_42 (dk_at dksJ22_init_0 9 rfl rfl)
theorem dJ22_init_10 : decode cJ22_init 10 = .ok (.iload_n 2, 1) := dk_28 (dk_at dksJ22_init_0 10 rfl rfl)
theorem dJ22_init_11 : decode cJ22_init 11 = .ok (.putfield 13, 3) := dk_181 0 13 (dk_at dksJ22_init_0 11 rfl rfl)
theorem dJ22_init_14 : decode cJ22_init 14 = .ok (.aload_n 0, 1) := dk_42 (dk_at dksJ22_init_0 14 rfl rfl)
theorem dJ22_init_15 : decode cJ22_init 15 = .ok (.iload_n 2, 1) := dk_28 (dk_at dksJ22_init_0 15 rfl rfl)
theorem dJ22_init_16 : decode cJ22_init 16 = .ok (.ifCond .eq 10, 3) := dk_153 0 10 (dk_at dksJ22_init_0 16 rfl rfl)
theorem dJ22_init_19 : decode cJ22_init 19 = .ok (.aload_n 1, 1) := dk_43 (dk_at dksJ22_init_0 19 rfl rfl)
theorem dJ22_init_20 : decode cJ22_init 20 = .ok (.getfield 17, 3) := dk_180 0 17 (dk_at dksJ22_init_0 20 rfl rfl)
theorem dJ22_init_23 : decode cJ22_init 23 = .ok (.goto 7, 3) := dk_167 0 7 (dk_at dksJ22_init_1 0 rfl rfl)
theorem dJ22_init_26 : decode cJ22_init 26 = .ok (.aload_n 1, 1) := dk_43 (dk_at dksJ22_init_1 3 rfl rfl)
theorem dJ22_init_27 : decode cJ22_init 27 = .ok (.getfield 23, 3) := dk_180 0 23 (dk_at dksJ22_init_1 4 rfl rfl)
theorem dJ22_init_30 : decode cJ22_init 30 = .ok (.putfield 26, 3) := dk_181 0 26 (dk_at dksJ22_init_1 7 rfl rfl)
theorem dJ22_init_33 : decode cJ22_init 33 = .ok (.aload_n 0, 1) := dk_42 (dk_at dksJ22_init_1 10 rfl rfl)
theorem dJ22_init_34 : decode cJ22_init 34 = .ok (.aload_n 1, 1) := dk_43 (dk_at dksJ22_init_1 11 rfl rfl)
theorem dJ22_init_35 : decode cJ22_init 35 = .ok (.getfield 29, 3) := dk_180 0 29 (dk_at dksJ22_init_1 12 rfl rfl)
theorem dJ22_init_38 : decode cJ22_init 38 = .ok (.putfield 33, 3) := dk_181 0 33 (dk_at dksJ22_init_1 15 rfl rfl)
theorem dJ22_init_41 : decode cJ22_init 41 = .ok (.aload_n 0, 1) := dk_42 (dk_at dksJ22_init_1 18 rfl rfl)
theorem dJ22_init_42 : decode cJ22_init 42 = .ok (.aconst_null, 1) := dk_1 (dk_at dksJ22_init_1 19 rfl rfl)
theorem dJ22_init_43 : decode cJ22_init 43 = .ok (.putfield 36, 3) := dk_181 0 36 (dk_at dksJ22_init_1 20 rfl rfl)
theorem dJ22_init_46 : decode cJ22_init 46 = .ok (.return_, 1) := dk_177 (dk_at dksJ22_init_1 23 rfl rfl)
theorem q126 : (Jvm.Cond.initialized "java/util/LinkedHashMap$LinkedHashIterator") ∈ lw_all := lw_g (lw_at lw_m1 29 rfl) rfl
theorem q230 : (Jvm.Cond.fieldLink "java/util/LinkedHashMap$LinkedHashIterator" (23 : Nat) "java/util/LinkedHashMap" "head" "Ljava/util/LinkedHashMap$Entry;") ∈ lw_all := lw_g (lw_at lw_m1 133 rfl) rfl
theorem q231 : (Jvm.Cond.fieldLink "java/util/LinkedHashMap$LinkedHashIterator" (17 : Nat) "java/util/LinkedHashMap" "tail" "Ljava/util/LinkedHashMap$Entry;") ∈ lw_all := lw_g (lw_at lw_m1 134 rfl) rfl
theorem q240 : (Jvm.Cond.fieldLink "java/util/LinkedHashMap$LinkedHashIterator" (29 : Nat) "java/util/LinkedHashMap" "modCount" "I") ∈ lw_all := lw_g (lw_at lw_m1 143 rfl) rfl
theorem q490 : (Jvm.Cond.instanceMethod ({ cls := "java/util/LinkedHashMap$LinkedHashIterator", name := "hasNext", desc := "()Z" } : Jvm.MethodName)) ∈ lw_all := lw_g (lw_at lw_m2 153 rfl) rfl
theorem q491 : (Jvm.Cond.publicMethod ({ cls := "java/util/LinkedHashMap$LinkedHashIterator", name := "hasNext", desc := "()Z" } : Jvm.MethodName)) ∈ lw_tbl := lw_at lw_m2 154 rfl
theorem q492 : (Jvm.Cond.code ({ cls := "java/util/LinkedHashMap$LinkedHashIterator", name := "hasNext", desc := "()Z" } : Jvm.MethodName) prog_59_method_2_code (1 : Nat) (Option.some Jvm.ClassFile.FieldType.boolean)) ∈ lw_all := lw_g (lw_at lw_m2 155 rfl) rfl
theorem q551 : (Jvm.Cond.declares ({ cls := "java/util/LinkedHashMap$LinkedHashIterator", name := "nextNode", desc := "()Ljava/util/LinkedHashMap$Entry;" } : Jvm.MethodName)) ∈ lw_tbl := lw_at lw_m2 214 rfl
theorem q553 : (Jvm.Cond.instanceMethod ({ cls := "java/util/LinkedHashMap$LinkedHashIterator", name := "nextNode", desc := "()Ljava/util/LinkedHashMap$Entry;" } : Jvm.MethodName)) ∈ lw_all := lw_g (lw_at lw_m2 216 rfl) rfl
theorem q554 : (Jvm.Cond.code ({ cls := "java/util/LinkedHashMap$LinkedHashIterator", name := "nextNode", desc := "()Ljava/util/LinkedHashMap$Entry;" } : Jvm.MethodName) prog_59_method_3_code (2 : Nat) (Option.some (Jvm.ClassFile.FieldType.object "java/util/LinkedHashMap$Entry"))) ∈ lw_all := lw_g (lw_at lw_m2 217 rfl) rfl
theorem q770 : (Jvm.Cond.instanceMethod ({ cls := "java/util/LinkedHashMap$LinkedHashIterator", name := "<init>", desc := "(Ljava/util/LinkedHashMap;Z)V" } : Jvm.MethodName)) ∈ lw_all := lw_g (lw_at lw_m3 193 rfl) rfl
theorem q771 : (Jvm.Cond.code ({ cls := "java/util/LinkedHashMap$LinkedHashIterator", name := "<init>", desc := "(Ljava/util/LinkedHashMap;Z)V" } : Jvm.MethodName) prog_59_method_1_code (3 : Nat) (Option.none : Option Jvm.ClassFile.FieldType)) ∈ lw_all := lw_g (lw_at lw_m3 194 rfl) rfl
theorem q772 : (Jvm.Cond.methodLink "java/util/LinkedHashMap$LinkedHashIterator" (7 : Nat) ({ cls := "java/lang/Object", name := "<init>", desc := "()V" } : Jvm.MethodName)) ∈ lw_all := lw_g (lw_at lw_m3 195 rfl) rfl
theorem q773 : (Jvm.Cond.fieldLink "java/util/LinkedHashMap$LinkedHashIterator" (26 : Nat) "java/util/LinkedHashMap$LinkedHashIterator" "next" "Ljava/util/LinkedHashMap$Entry;") ∈ lw_all := lw_g (lw_at lw_m3 196 rfl) rfl
theorem q774 : (Jvm.Cond.fieldLink "java/util/LinkedHashMap$LinkedHashIterator" (36 : Nat) "java/util/LinkedHashMap$LinkedHashIterator" "current" "Ljava/util/LinkedHashMap$Entry;") ∈ lw_all := lw_g (lw_at lw_m3 197 rfl) rfl
theorem q775 : (Jvm.Cond.fieldLink "java/util/LinkedHashMap$LinkedHashIterator" (33 : Nat) "java/util/LinkedHashMap$LinkedHashIterator" "expectedModCount" "I") ∈ lw_all := lw_g (lw_at lw_m3 198 rfl) rfl
theorem q776 : (Jvm.Cond.fieldLink "java/util/LinkedHashMap$LinkedHashIterator" (13 : Nat) "java/util/LinkedHashMap$LinkedHashIterator" "reversed" "Z") ∈ lw_all := lw_g (lw_at lw_m3 199 rfl) rfl
theorem q777 : (Jvm.Cond.fieldLink "java/util/LinkedHashMap$LinkedHashIterator" (1 : Nat) "java/util/LinkedHashMap$LinkedHashIterator" "this$0" "Ljava/util/LinkedHashMap;") ∈ lw_all := lw_g (lw_at lw_m3 200 rfl) rfl
theorem q779 : (Jvm.Cond.soleField "java/util/LinkedHashMap$LinkedHashIterator" "next") ∈ lw_all := lw_g (lw_at lw_m3 202 rfl) rfl
theorem q781 : (Jvm.Cond.soleField "java/util/LinkedHashMap$LinkedHashIterator" "current") ∈ lw_all := lw_g (lw_at lw_m3 204 rfl) rfl
theorem q783 : (Jvm.Cond.soleField "java/util/LinkedHashMap$LinkedHashIterator" "expectedModCount") ∈ lw_all := lw_g (lw_at lw_m3 206 rfl) rfl
theorem q785 : (Jvm.Cond.soleField "java/util/LinkedHashMap$LinkedHashIterator" "reversed") ∈ lw_all := lw_g (lw_at lw_m3 208 rfl) rfl
theorem q787 : (Jvm.Cond.soleField "java/util/LinkedHashMap$LinkedHashIterator" "this$0") ∈ lw_all := lw_g (lw_at lw_m3 210 rfl) rfl
theorem q1046 : (Jvm.Cond.fieldLink "java/util/LinkedHashMap$LinkedHashIterator" (45 : Nat) "java/util/LinkedHashMap$Entry" "before" "Ljava/util/LinkedHashMap$Entry;") ∈ lw_all := lw_g (lw_at lw_m4 229 rfl) rfl
theorem q1048 : (Jvm.Cond.fieldLink "java/util/LinkedHashMap$LinkedHashIterator" (50 : Nat) "java/util/LinkedHashMap$Entry" "after" "Ljava/util/LinkedHashMap$Entry;") ∈ lw_all := lw_g (lw_at lw_m4 231 rfl) rfl
/-! java/util/LinkedHashMap$LinkedKeyIterator -/
set_option maxRecDepth 100000
def RJ23 : String := "java/util/LinkedHashMap$LinkedKeyIterator"
def TJ23 : u_T := fun k => match k with
  | 0 => ("java/util/LinkedHashMap$LinkedHashIterator", "next", "Ljava/util/LinkedHashMap$Entry;", false)
  | 1 => ("java/util/LinkedHashMap$LinkedHashIterator", "current", "Ljava/util/LinkedHashMap$Entry;", false)
  | 2 => ("java/util/LinkedHashMap$LinkedHashIterator", "expectedModCount", "I", false)
  | 3 => ("java/util/LinkedHashMap$LinkedHashIterator", "reversed", "Z", false)
  | _ => ("java/util/LinkedHashMap$LinkedHashIterator", "this$0", "Ljava/util/LinkedHashMap;", true)
def tyJ23 : Nat → FieldType := fun k => match k with
  | 0 => .object "java/util/LinkedHashMap$Entry"
  | 1 => .object "java/util/LinkedHashMap$Entry"
  | 2 => .int
  | 3 => .boolean
  | _ => .object "java/util/LinkedHashMap"
abbrev wsJ230 : List Cond := u_ws RJ23 TJ23 5
theorem nmJ23 : ∀ a, a < 5 → ∀ b, b < 5 → a ≠ b → (TJ23 a).2.1 ≠ (TJ23 b).2.1 := by decide +kernel
theorem tyJ23_ok : ∀ k, k < 5 → parseFieldDescriptor (TJ23 k).2.2.1 = some (tyJ23 k) := by decide +kernel
abbrev cJ23_next : ByteArray := prog_60_method_2_code
def yJ23_next : MethodName := ⟨RJ23, "next", "()Ljava/lang/Object;"⟩
def dkwJ23_next_0 : List UInt8 := [42, 182, 0, 7, 182, 0, 13, 176]
abbrev dktJ23_next_0 : List UInt8 := dkwJ23_next_0 ++ []
theorem dksJ23_next_0 : cJ23_next.data.toList.drop 0 = dktJ23_next_0 := by decide +kernel
theorem dJ23_next_0 : decode cJ23_next 0 = .ok (.aload_n 0, 1) := dk_42 (dk_at dksJ23_next_0 0 rfl rfl)
theorem dJ23_next_1 : decode cJ23_next 1 = .ok (.invokevirtual 7, 3) := dk_182 0 7 (dk_at dksJ23_next_0 1 rfl rfl)
theorem dJ23_next_4 : decode cJ23_next 4 = .ok (.invokevirtual 13, 3) := dk_182 0 13 (dk_at dksJ23_next_0 4 rfl rfl)
theorem dJ23_next_7 : decode cJ23_next 7 = .ok (.areturn, 1) := dk_176 (dk_at dksJ23_next_0 7 rfl rfl)
abbrev cJ23_init : ByteArray := prog_60_method_1_code
def yJ23_init : MethodName := ⟨RJ23, "<init>", "(Ljava/util/LinkedHashMap;Z)V"⟩
def dkwJ23_init_0 : List UInt8 := [42, 43, 28, 183, 0, 1, 177]
abbrev dktJ23_init_0 : List UInt8 := dkwJ23_init_0 ++ []
theorem dksJ23_init_0 : cJ23_init.data.toList.drop 0 = dktJ23_init_0 := by decide +kernel
theorem dJ23_init_0 : decode cJ23_init 0 = .ok (.aload_n 0, 1) := dk_42 (dk_at dksJ23_init_0 0 rfl rfl)
theorem dJ23_init_1 : decode cJ23_init 1 = .ok (.aload_n 1, 1) := dk_43 (dk_at dksJ23_init_0 1 rfl rfl)
theorem dJ23_init_2 : decode cJ23_init 2 = .ok (.iload_n 2, 1) := dk_28 (dk_at dksJ23_init_0 2 rfl rfl)
theorem dJ23_init_3 : decode cJ23_init 3 = .ok (.invokespecial 1, 3) := dk_183 0 1 (dk_at dksJ23_init_0 3 rfl rfl)
theorem dJ23_init_6 : decode cJ23_init 6 = .ok (.return_, 1) := dk_177 (dk_at dksJ23_init_0 6 rfl rfl)
theorem q127 : (Jvm.Cond.initialized "java/util/LinkedHashMap$LinkedKeyIterator") ∈ lw_all := lw_g (lw_at lw_m1 30 rfl) rfl
theorem q487 : (Jvm.Cond.castable "java/util/LinkedHashMap$LinkedKeyIterator" "java/util/Iterator") ∈ lw_tbl := lw_at lw_m2 150 rfl
theorem q488 : (Jvm.Cond.selects "java/util/LinkedHashMap$LinkedKeyIterator" ({ cls := "java/util/Iterator", name := "hasNext", desc := "()Z" } : Jvm.MethodName) ({ cls := "java/util/LinkedHashMap$LinkedHashIterator", name := "hasNext", desc := "()Z" } : Jvm.MethodName)) ∈ lw_all := lw_g (lw_at lw_m2 151 rfl) rfl
theorem q489 : (Jvm.Cond.unhidden "java/util/LinkedHashMap$LinkedKeyIterator" "hasNext" "()Z") ∈ lw_tbl := lw_at lw_m2 152 rfl
theorem q544 : (Jvm.Cond.selects "java/util/LinkedHashMap$LinkedKeyIterator" ({ cls := "java/util/Iterator", name := "next", desc := "()Ljava/lang/Object;" } : Jvm.MethodName) ({ cls := "java/util/LinkedHashMap$LinkedKeyIterator", name := "next", desc := "()Ljava/lang/Object;" } : Jvm.MethodName)) ∈ lw_all := lw_g (lw_at lw_m2 207 rfl) rfl
theorem q545 : (Jvm.Cond.unhidden "java/util/LinkedHashMap$LinkedKeyIterator" "next" "()Ljava/lang/Object;") ∈ lw_tbl := lw_at lw_m2 208 rfl
theorem q546 : (Jvm.Cond.instanceMethod ({ cls := "java/util/LinkedHashMap$LinkedKeyIterator", name := "next", desc := "()Ljava/lang/Object;" } : Jvm.MethodName)) ∈ lw_all := lw_g (lw_at lw_m2 209 rfl) rfl
theorem q547 : (Jvm.Cond.publicMethod ({ cls := "java/util/LinkedHashMap$LinkedKeyIterator", name := "next", desc := "()Ljava/lang/Object;" } : Jvm.MethodName)) ∈ lw_tbl := lw_at lw_m2 210 rfl
theorem q548 : (Jvm.Cond.code ({ cls := "java/util/LinkedHashMap$LinkedKeyIterator", name := "next", desc := "()Ljava/lang/Object;" } : Jvm.MethodName) prog_60_method_2_code (1 : Nat) (Option.some (Jvm.ClassFile.FieldType.object "java/lang/Object"))) ∈ lw_all := lw_g (lw_at lw_m2 211 rfl) rfl
theorem q549 : (Jvm.Cond.methodLink "java/util/LinkedHashMap$LinkedKeyIterator" (7 : Nat) ({ cls := "java/util/LinkedHashMap$LinkedKeyIterator", name := "nextNode", desc := "()Ljava/util/LinkedHashMap$Entry;" } : Jvm.MethodName)) ∈ lw_all := lw_g (lw_at lw_m2 212 rfl) rfl
theorem q550 : (Jvm.Cond.sameMethod "java/util/LinkedHashMap$LinkedKeyIterator" "java/util/LinkedHashMap$LinkedHashIterator" "nextNode" "()Ljava/util/LinkedHashMap$Entry;") ∈ lw_all := lw_g (lw_at lw_m2 213 rfl) rfl
theorem q552 : (Jvm.Cond.selects "java/util/LinkedHashMap$LinkedKeyIterator" ({ cls := "java/util/LinkedHashMap$LinkedKeyIterator", name := "nextNode", desc := "()Ljava/util/LinkedHashMap$Entry;" } : Jvm.MethodName) ({ cls := "java/util/LinkedHashMap$LinkedHashIterator", name := "nextNode", desc := "()Ljava/util/LinkedHashMap$Entry;" } : Jvm.MethodName)) ∈ lw_all := lw_g (lw_at lw_m2 215 rfl) rfl
theorem q555 : (Jvm.Cond.methodLink "java/util/LinkedHashMap$LinkedKeyIterator" (13 : Nat) ({ cls := "java/util/LinkedHashMap$Entry", name := "getKey", desc := "()Ljava/lang/Object;" } : Jvm.MethodName)) ∈ lw_all := lw_g (lw_at lw_m2 218 rfl) rfl
theorem q765 : (Jvm.Cond.instantiable "java/util/LinkedHashMap$LinkedKeyIterator" (5 : Nat)) ∈ lw_all := lw_g (lw_at lw_m3 188 rfl) rfl
theorem q767 : (Jvm.Cond.instanceMethod ({ cls := "java/util/LinkedHashMap$LinkedKeyIterator", name := "<init>", desc := "(Ljava/util/LinkedHashMap;Z)V" } : Jvm.MethodName)) ∈ lw_all := lw_g (lw_at lw_m3 190 rfl) rfl
theorem q768 : (Jvm.Cond.code ({ cls := "java/util/LinkedHashMap$LinkedKeyIterator", name := "<init>", desc := "(Ljava/util/LinkedHashMap;Z)V" } : Jvm.MethodName) prog_60_method_1_code (3 : Nat) (Option.none : Option Jvm.ClassFile.FieldType)) ∈ lw_all := lw_g (lw_at lw_m3 191 rfl) rfl
theorem q769 : (Jvm.Cond.methodLink "java/util/LinkedHashMap$LinkedKeyIterator" (1 : Nat) ({ cls := "java/util/LinkedHashMap$LinkedHashIterator", name := "<init>", desc := "(Ljava/util/LinkedHashMap;Z)V" } : Jvm.MethodName)) ∈ lw_all := lw_g (lw_at lw_m3 192 rfl) rfl
theorem q778 : (Jvm.Cond.lays "java/util/LinkedHashMap$LinkedKeyIterator" "java/util/LinkedHashMap$LinkedHashIterator" "next" "Ljava/util/LinkedHashMap$Entry;") ∈ lw_all := lw_g (lw_at lw_m3 201 rfl) rfl
theorem q780 : (Jvm.Cond.lays "java/util/LinkedHashMap$LinkedKeyIterator" "java/util/LinkedHashMap$LinkedHashIterator" "current" "Ljava/util/LinkedHashMap$Entry;") ∈ lw_all := lw_g (lw_at lw_m3 203 rfl) rfl
theorem q782 : (Jvm.Cond.lays "java/util/LinkedHashMap$LinkedKeyIterator" "java/util/LinkedHashMap$LinkedHashIterator" "expectedModCount" "I") ∈ lw_all := lw_g (lw_at lw_m3 205 rfl) rfl
theorem q784 : (Jvm.Cond.lays "java/util/LinkedHashMap$LinkedKeyIterator" "java/util/LinkedHashMap$LinkedHashIterator" "reversed" "Z") ∈ lw_all := lw_g (lw_at lw_m3 207 rfl) rfl
theorem q786 : (Jvm.Cond.laysFinal "java/util/LinkedHashMap$LinkedKeyIterator" "java/util/LinkedHashMap$LinkedHashIterator" "this$0" "Ljava/util/LinkedHashMap;") ∈ lw_all := lw_g (lw_at lw_m3 209 rfl) rfl
theorem q788 : (Jvm.Cond.superclass "java/util/LinkedHashMap$LinkedKeyIterator" "java/util/LinkedHashMap$LinkedHashIterator") ∈ lw_all := lw_g (lw_at lw_m3 211 rfl) rfl
theorem q1127 : (Jvm.Cond.selects "java/util/LinkedHashMap$LinkedKeyIterator" ({ cls := "java/lang/Object", name := "getClass", desc := "()Ljava/lang/Class;" } : Jvm.MethodName) ({ cls := "java/lang/Object", name := "getClass", desc := "()Ljava/lang/Class;" } : Jvm.MethodName)) ∈ lw_all := lw_g (lw_at lw_m5 70 rfl) rfl
theorem q3188 : (Jvm.Cond.castable "java/util/LinkedHashMap$LinkedKeyIterator" "java/lang/Object") ∈ lw_tbl := lw_at lw_m13 211 rfl
theorem in_J23 : ∀ w ∈ wsJ230, w ∈ lw_all := lw_in wsJ230 [778, 780, 782, 784, 786] (by decide +kernel) (by decide +kernel)
/-! java/util/LinkedHashMap$LinkedKeySet -/
set_option maxRecDepth 100000
def RJ25 : String := "java/util/LinkedHashMap$LinkedKeySet"
def TJ25 : u_T := fun k => match k with
  | 0 => ("java/util/LinkedHashMap$LinkedKeySet", "reversed", "Z", true)
  | _ => ("java/util/LinkedHashMap$LinkedKeySet", "this$0", "Ljava/util/LinkedHashMap;", true)
def tyJ25 : Nat → FieldType := fun k => match k with
  | 0 => .boolean
  | _ => .object "java/util/LinkedHashMap"
abbrev wsJ250 : List Cond := u_ws RJ25 TJ25 2
theorem nmJ25 : ∀ a, a < 2 → ∀ b, b < 2 → a ≠ b → (TJ25 a).2.1 ≠ (TJ25 b).2.1 := by decide +kernel
theorem tyJ25_ok : ∀ k, k < 2 → parseFieldDescriptor (TJ25 k).2.2.1 = some (tyJ25 k) := by decide +kernel
abbrev cJ25_iterator : ByteArray := prog_61_method_4_code
def yJ25_iterator : MethodName := ⟨RJ25, "iterator", "()Ljava/util/Iterator;"⟩
def dkwJ25_iterator_0 : List UInt8 := [187, 0, 26, 89, 42, 180, 0, 1, 42, 180, 0, 13, 183, 0, 28, 176]
abbrev dktJ25_iterator_0 : List UInt8 := dkwJ25_iterator_0 ++ []
theorem dksJ25_iterator_0 : cJ25_iterator.data.toList.drop 0 = dktJ25_iterator_0 := by decide +kernel
theorem dJ25_iterator_0 : decode cJ25_iterator 0 = .ok (.new 26, 3) := dk_187 0 26 (dk_at dksJ25_iterator_0 0 rfl rfl)
theorem dJ25_iterator_3 : decode cJ25_iterator 3 = .ok (.dup, 1) := dk_89 (dk_at dksJ25_iterator_0 3 rfl rfl)
theorem dJ25_iterator_4 : decode cJ25_iterator 4 = .ok (.aload_n 0, 1) := dk_42 (dk_at dksJ25_iterator_0 4 rfl rfl)
theorem dJ25_iterator_5 : decode cJ25_iterator 5 = .ok (.getfield 1, 3) := dk_180 0 1 (dk_at dksJ25_iterator_0 5 rfl rfl)
theorem dJ25_iterator_8 : decode cJ25_iterator 8 = .ok (.aload_n 0, 1) := dk_42 (dk_at dksJ25_iterator_0 8 rfl rfl)
theorem dJ25_iterator_9 : decode cJ25_iterator 9 = .ok (.getfield 13, 3) := dk_180 0 13 (dk_at dksJ25_iterator_0 9 rfl rfl)
theorem dJ25_iterator_12 : decode cJ25_iterator 12 = .ok (.invokespecial 28, 3) := dk_183 0 28 (dk_at dksJ25_iterator_0 12 rfl rfl)
theorem dJ25_iterator_15 : decode cJ25_iterator 15 = .ok (.areturn, 1) := dk_176 (dk_at dksJ25_iterator_0 15 rfl rfl)
abbrev cJ25_init : ByteArray := prog_61_method_1_code
def yJ25_init : MethodName := ⟨RJ25, "<init>", "(Ljava/util/LinkedHashMap;Z)V"⟩
def dkwJ25_init_0 : List UInt8 := [42, 43, 181, 0, 1, 42, 183, 0, 7, 42, 28, 181, 0, 13, 177]
abbrev dktJ25_init_0 : List UInt8 := dkwJ25_init_0 ++ []
theorem dksJ25_init_0 : cJ25_init.data.toList.drop 0 = dktJ25_init_0 := by decide +kernel
theorem dJ25_init_0 : decode cJ25_init 0 = .ok (.aload_n 0, 1) := dk_42 (dk_at dksJ25_init_0 0 rfl rfl)
theorem dJ25_init_1 : decode cJ25_init 1 = .ok (.aload_n 1, 1) := dk_43 (dk_at dksJ25_init_0 1 rfl rfl)
theorem dJ25_init_2 : decode cJ25_init 2 = .ok (.putfield 1, 3) := dk_181 0 1 (dk_at dksJ25_init_0 2 rfl rfl)
theorem dJ25_init_5 : decode cJ25_init 5 = .ok (.aload_n 0, 1) := dk_42 (dk_at dksJ25_init_0 5 rfl rfl)
theorem dJ25_init_6 : decode cJ25_init 6 = .ok (.invokespecial 7, 3) := dk_183 0 7 (dk_at dksJ25_init_0 6 rfl rfl)
theorem dJ25_init_9 : decode cJ25_init 9 = .ok (.aload_n 0, 1) := dk_42 (dk_at dksJ25_init_0 9 rfl rfl)
theorem dJ25_init_10 : decode cJ25_init 10 = .ok (.iload_n 2, 1) := dk_28 (dk_at dksJ25_init_0 10 rfl rfl)
theorem dJ25_init_11 : decode cJ25_init 11 = .ok (.putfield 13, 3) := dk_181 0 13 (dk_at dksJ25_init_0 11 rfl rfl)
theorem dJ25_init_14 : decode cJ25_init 14 = .ok (.return_, 1) := dk_177 (dk_at dksJ25_init_0 14 rfl rfl)
theorem q129 : (Jvm.Cond.initialized "java/util/LinkedHashMap$LinkedKeySet") ∈ lw_all := lw_g (lw_at lw_m1 32 rfl) rfl
theorem q758 : (Jvm.Cond.castable "java/util/LinkedHashMap$LinkedKeySet" "java/util/Collection") ∈ lw_tbl := lw_at lw_m3 181 rfl
theorem q759 : (Jvm.Cond.selects "java/util/LinkedHashMap$LinkedKeySet" ({ cls := "java/util/Collection", name := "iterator", desc := "()Ljava/util/Iterator;" } : Jvm.MethodName) ({ cls := "java/util/LinkedHashMap$LinkedKeySet", name := "iterator", desc := "()Ljava/util/Iterator;" } : Jvm.MethodName)) ∈ lw_all := lw_g (lw_at lw_m3 182 rfl) rfl
theorem q760 : (Jvm.Cond.unhidden "java/util/LinkedHashMap$LinkedKeySet" "iterator" "()Ljava/util/Iterator;") ∈ lw_tbl := lw_at lw_m3 183 rfl
theorem q761 : (Jvm.Cond.instanceMethod ({ cls := "java/util/LinkedHashMap$LinkedKeySet", name := "iterator", desc := "()Ljava/util/Iterator;" } : Jvm.MethodName)) ∈ lw_all := lw_g (lw_at lw_m3 184 rfl) rfl
theorem q762 : (Jvm.Cond.publicMethod ({ cls := "java/util/LinkedHashMap$LinkedKeySet", name := "iterator", desc := "()Ljava/util/Iterator;" } : Jvm.MethodName)) ∈ lw_tbl := lw_at lw_m3 185 rfl
theorem q763 : (Jvm.Cond.code ({ cls := "java/util/LinkedHashMap$LinkedKeySet", name := "iterator", desc := "()Ljava/util/Iterator;" } : Jvm.MethodName) prog_61_method_4_code (1 : Nat) (Option.some (Jvm.ClassFile.FieldType.object "java/util/Iterator"))) ∈ lw_all := lw_g (lw_at lw_m3 186 rfl) rfl
theorem q764 : (Jvm.Cond.classLink "java/util/LinkedHashMap$LinkedKeySet" (26 : Nat) "java/util/LinkedHashMap$LinkedKeyIterator") ∈ lw_all := lw_g (lw_at lw_m3 187 rfl) rfl
theorem q766 : (Jvm.Cond.methodLink "java/util/LinkedHashMap$LinkedKeySet" (28 : Nat) ({ cls := "java/util/LinkedHashMap$LinkedKeyIterator", name := "<init>", desc := "(Ljava/util/LinkedHashMap;Z)V" } : Jvm.MethodName)) ∈ lw_all := lw_g (lw_at lw_m3 189 rfl) rfl
theorem q806 : (Jvm.Cond.instantiable "java/util/LinkedHashMap$LinkedKeySet" (2 : Nat)) ∈ lw_all := lw_g (lw_at lw_m3 229 rfl) rfl
theorem q808 : (Jvm.Cond.instanceMethod ({ cls := "java/util/LinkedHashMap$LinkedKeySet", name := "<init>", desc := "(Ljava/util/LinkedHashMap;Z)V" } : Jvm.MethodName)) ∈ lw_all := lw_g (lw_at lw_m3 231 rfl) rfl
theorem q809 : (Jvm.Cond.code ({ cls := "java/util/LinkedHashMap$LinkedKeySet", name := "<init>", desc := "(Ljava/util/LinkedHashMap;Z)V" } : Jvm.MethodName) prog_61_method_1_code (3 : Nat) (Option.none : Option Jvm.ClassFile.FieldType)) ∈ lw_all := lw_g (lw_at lw_m3 232 rfl) rfl
theorem q810 : (Jvm.Cond.methodLink "java/util/LinkedHashMap$LinkedKeySet" (7 : Nat) ({ cls := "java/util/AbstractSet", name := "<init>", desc := "()V" } : Jvm.MethodName)) ∈ lw_all := lw_g (lw_at lw_m3 233 rfl) rfl
theorem q811 : (Jvm.Cond.fieldLink "java/util/LinkedHashMap$LinkedKeySet" (13 : Nat) "java/util/LinkedHashMap$LinkedKeySet" "reversed" "Z") ∈ lw_all := lw_g (lw_at lw_m3 234 rfl) rfl
theorem q812 : (Jvm.Cond.fieldLink "java/util/LinkedHashMap$LinkedKeySet" (1 : Nat) "java/util/LinkedHashMap$LinkedKeySet" "this$0" "Ljava/util/LinkedHashMap;") ∈ lw_all := lw_g (lw_at lw_m3 235 rfl) rfl
theorem q813 : (Jvm.Cond.laysFinal "java/util/LinkedHashMap$LinkedKeySet" "java/util/LinkedHashMap$LinkedKeySet" "reversed" "Z") ∈ lw_all := lw_g (lw_at lw_m3 236 rfl) rfl
theorem q814 : (Jvm.Cond.soleField "java/util/LinkedHashMap$LinkedKeySet" "reversed") ∈ lw_all := lw_g (lw_at lw_m3 237 rfl) rfl
theorem q815 : (Jvm.Cond.laysFinal "java/util/LinkedHashMap$LinkedKeySet" "java/util/LinkedHashMap$LinkedKeySet" "this$0" "Ljava/util/LinkedHashMap;") ∈ lw_all := lw_g (lw_at lw_m3 238 rfl) rfl
theorem q816 : (Jvm.Cond.soleField "java/util/LinkedHashMap$LinkedKeySet" "this$0") ∈ lw_all := lw_g (lw_at lw_m3 239 rfl) rfl
theorem q817 : (Jvm.Cond.superclass "java/util/LinkedHashMap$LinkedKeySet" "java/util/AbstractSet") ∈ lw_all := lw_g (lw_at lw_m4 0 rfl) rfl
theorem q826 : (Jvm.Cond.castable "java/util/LinkedHashMap$LinkedKeySet" "java/util/Set") ∈ lw_tbl := lw_at lw_m4 9 rfl
theorem q827 : (Jvm.Cond.selects "java/util/LinkedHashMap$LinkedKeySet" ({ cls := "java/util/Set", name := "iterator", desc := "()Ljava/util/Iterator;" } : Jvm.MethodName) ({ cls := "java/util/LinkedHashMap$LinkedKeySet", name := "iterator", desc := "()Ljava/util/Iterator;" } : Jvm.MethodName)) ∈ lw_all := lw_g (lw_at lw_m4 10 rfl) rfl
theorem q1128 : (Jvm.Cond.selects "java/util/LinkedHashMap$LinkedKeySet" ({ cls := "java/lang/Object", name := "getClass", desc := "()Ljava/lang/Class;" } : Jvm.MethodName) ({ cls := "java/lang/Object", name := "getClass", desc := "()Ljava/lang/Class;" } : Jvm.MethodName)) ∈ lw_all := lw_g (lw_at lw_m5 71 rfl) rfl
theorem q1831 : (Jvm.Cond.selects "java/util/LinkedHashMap$LinkedKeySet" ({ cls := "java/util/Collection", name := "contains", desc := "(Ljava/lang/Object;)Z" } : Jvm.MethodName) ({ cls := "java/util/LinkedHashMap$LinkedKeySet", name := "contains", desc := "(Ljava/lang/Object;)Z" } : Jvm.MethodName)) ∈ lw_all := lw_g (lw_at lw_m8 54 rfl) rfl
theorem q1832 : (Jvm.Cond.unhidden "java/util/LinkedHashMap$LinkedKeySet" "contains" "(Ljava/lang/Object;)Z") ∈ lw_tbl := lw_at lw_m8 55 rfl
theorem q1833 : (Jvm.Cond.instanceMethod ({ cls := "java/util/LinkedHashMap$LinkedKeySet", name := "contains", desc := "(Ljava/lang/Object;)Z" } : Jvm.MethodName)) ∈ lw_all := lw_g (lw_at lw_m8 56 rfl) rfl
theorem q1834 : (Jvm.Cond.publicMethod ({ cls := "java/util/LinkedHashMap$LinkedKeySet", name := "contains", desc := "(Ljava/lang/Object;)Z" } : Jvm.MethodName)) ∈ lw_tbl := lw_at lw_m8 57 rfl
theorem q1835 : (Jvm.Cond.code ({ cls := "java/util/LinkedHashMap$LinkedKeySet", name := "contains", desc := "(Ljava/lang/Object;)Z" } : Jvm.MethodName) prog_61_method_5_code (2 : Nat) (Option.some Jvm.ClassFile.FieldType.boolean)) ∈ lw_all := lw_g (lw_at lw_m8 58 rfl) rfl
theorem q1836 : (Jvm.Cond.methodLink "java/util/LinkedHashMap$LinkedKeySet" (31 : Nat) ({ cls := "java/util/LinkedHashMap", name := "containsKey", desc := "(Ljava/lang/Object;)Z" } : Jvm.MethodName)) ∈ lw_all := lw_g (lw_at lw_m8 59 rfl) rfl
theorem q3168 : (Jvm.Cond.castable "java/util/LinkedHashMap$LinkedKeySet" "java/util/SequencedSet") ∈ lw_tbl := lw_at lw_m13 191 rfl
theorem q3186 : (Jvm.Cond.castable "java/util/LinkedHashMap$LinkedKeySet" "java/lang/Object") ∈ lw_tbl := lw_at lw_m13 209 rfl
theorem in_J25 : ∀ w ∈ wsJ250, w ∈ lw_all := lw_in wsJ250 [813, 815] (by decide +kernel) (by decide +kernel)
/-! java/util/TreeMap$PrivateEntryIterator -/
set_option maxRecDepth 100000
def RJ27 : String := "java/util/TreeMap$PrivateEntryIterator"
abbrev cJ27_hasNext : ByteArray := prog_79_method_2_code
def yJ27_hasNext : MethodName := ⟨RJ27, "hasNext", "()Z"⟩
def dkwJ27_hasNext_0 : List UInt8 := [42, 180, 0, 26, 198, 0, 7, 4, 167, 0, 4, 3, 172]
abbrev dktJ27_hasNext_0 : List UInt8 := dkwJ27_hasNext_0 ++ []
theorem dksJ27_hasNext_0 : cJ27_hasNext.data.toList.drop 0 = dktJ27_hasNext_0 := by decide +kernel
theorem dJ27_hasNext_0 : decode cJ27_hasNext 0 = .ok (.aload_n 0, 1) := dk_42 (dk_at dksJ27_hasNext_0 0 rfl rfl)
theorem dJ27_hasNext_1 : decode cJ27_hasNext 1 = .ok (.getfield 26, 3) := dk_180 0 26 (dk_at dksJ27_hasNext_0 1 rfl rfl)
theorem dJ27_hasNext_4 : decode cJ27_hasNext 4 = .ok (.ifnull 7, 3) := dk_198 0 7 (dk_at dksJ27_hasNext_0 4 rfl rfl)
theorem dJ27_hasNext_7 : decode cJ27_hasNext 7 = .ok (.iconst 1, 1) := dk_4 (dk_at dksJ27_hasNext_0 7 rfl rfl)
theorem dJ27_hasNext_8 : decode cJ27_hasNext 8 = .ok (.goto 4, 3) := dk_167 0 4 (dk_at dksJ27_hasNext_0 8 rfl rfl)
theorem dJ27_hasNext_11 : decode cJ27_hasNext 11 = .ok (.iconst 0, 1) := dk_3 (dk_at dksJ27_hasNext_0 11 rfl rfl)
theorem dJ27_hasNext_12 : decode cJ27_hasNext 12 = .ok (.ireturn, 1) := dk_172 (dk_at dksJ27_hasNext_0 12 rfl rfl)
abbrev cJ27_nextEntry : ByteArray := prog_79_method_3_code
def yJ27_nextEntry : MethodName := ⟨RJ27, "nextEntry", "()Ljava/util/TreeMap$Entry;"⟩
def dkwJ27_nextEntry_2 : List UInt8 := [43, 181, 0, 22, 43, 176]
abbrev dktJ27_nextEntry_2 : List UInt8 := dkwJ27_nextEntry_2 ++ []
def dkwJ27_nextEntry_1 : List UInt8 := [42, 180, 0, 19, 159, 0, 11, 187, 0, 32, 89, 183, 0, 34, 191, 42, 43, 184, 0, 35, 181, 0, 26, 42]
abbrev dktJ27_nextEntry_1 : List UInt8 := dkwJ27_nextEntry_1 ++ dktJ27_nextEntry_2
def dkwJ27_nextEntry_0 : List UInt8 := [42, 180, 0, 26, 76, 43, 199, 0, 11, 187, 0, 29, 89, 183, 0, 31, 191, 42, 180, 0, 1, 180, 0, 13]
abbrev dktJ27_nextEntry_0 : List UInt8 := dkwJ27_nextEntry_0 ++ dktJ27_nextEntry_1
theorem dksJ27_nextEntry_0 : cJ27_nextEntry.data.toList.drop 0 = dktJ27_nextEntry_0 := by decide +kernel
theorem dksJ27_nextEntry_1 : cJ27_nextEntry.data.toList.drop 24 = dktJ27_nextEntry_1 := dk_seg dksJ27_nextEntry_0 24 rfl rfl
theorem dksJ27_nextEntry_2 : cJ27_nextEntry.data.toList.drop 48 = dktJ27_nextEntry_2 := dk_seg dksJ27_nextEntry_1 24 rfl rfl
theorem dJ27_nextEntry_0 : decode cJ27_nextEntry 0 = .ok (.aload_n 0, 1) := dk_42 (dk_at dksJ27_nextEntry_0 0 rfl rfl)
theorem dJ27_nextEntry_1 : decode cJ27_nextEntry 1 = .ok (.getfield 26, 3) := dk_180 0 26 (dk_at dksJ27_nextEntry_0 1 rfl rfl)
theorem dJ27_nextEntry_4 : decode cJ27_nextEntry 4 = .ok (.astore_n 1, 1) := dk_76 (dk_at dksJ27_nextEntry_0 4 rfl rfl)
theorem dJ27_nextEntry_5 : decode cJ27_nextEntry 5 = .ok (.aload_n 1, 1) := dk_43 (dk_at dksJ27_nextEntry_0 5 rfl rfl)
theorem dJ27_nextEntry_6 : decode cJ27_nextEntry 6 = .ok (.ifnonnull 11, 3) := dk_199 0 11 (dk_at dksJ27_nextEntry_0 6 rfl rfl)
theorem dJ27_nextEntry_9 : decode cJ27_nextEntry 9 = .ok (.new 29, 3) := dk_187 0 29 (dk_at dksJ27_nextEntry_0 9 rfl rfl)
theorem dJ27_nextEntry_12 : decode cJ27_nextEntry 12 = .ok (.dup, 1) := dk_89 (dk_at dksJ27_nextEntry_0 12 rfl rfl)
theorem dJ27_nextEntry_13 : decode cJ27_nextEntry 13 = .ok (.invokespecial 31, 3) := dk_183 0 31 (dk_at dksJ27_nextEntry_0 13 rfl rfl)
theorem dJ27_nextEntry_16 : decode cJ27_nextEntry 16 = .ok (.athrow, 1) := dk_191 (dk_at dksJ27_nextEntry_0 16 rfl rfl)
theorem dJ27_nextEntry_17 : decode cJ27_nextEntry 17 = .ok (.aload_n 0, 1) := dk_42 (dk_at dksJ27_nextEntry_0 17 rfl rfl)
theorem dJ27_nextEntry_18 : decode cJ27_nextEntry 18 = .ok (.getfield 1, 3) := dk_180 0 1 (dk_at dksJ27_nextEntry_0 18 rfl rfl)
theorem dJ27_nextEntry_21 : decode cJ27_nextEntry 21 = .ok (.getfield 13, 3) := dk_180 0 13 (dk_at dksJ27_nextEntry_0 21 rfl rfl)
theorem dJ27_nextEntry_24 : decode cJ27_nextEntry 24 = .ok (.aload_n 0, 1) := dk_42 (dk_at dksJ27_nextEntry_1 0 rfl rfl)
theorem dJ27_nextEntry_25 : decode cJ27_nextEntry 25 = .ok (.getfield 19, 3) := dk_180 0 19 (dk_at dksJ27_nextEntry_1 1 rfl rfl)
theorem dJ27_nextEntry_28 : decode cJ27_nextEntry 28 = .ok (.if_icmp .eq 11, 3) := dk_159 0 11 (dk_at dksJ27_nextEntry_1 4 rfl rfl)
theorem dJ27_nextEntry_31 : decode cJ27_nextEntry 31 = .ok (.new 32, 3) := dk_187 0 32 (dk_at dksJ27_nextEntry_1 7 rfl rfl)
theorem dJ27_nextEntry_34 : decode cJ27_nextEntry 34 = .ok (.dup, 1) := dk_89 (dk_at dksJ27_nextEntry_1 10 rfl rfl)
theorem dJ27_nextEntry_35 : decode cJ27_nextEntry 35 = .ok (.invokespecial 34, 3) := dk_183 0 34 (dk_at dksJ27_nextEntry_1 11 rfl rfl)
theorem dJ27_nextEntry_38 : decode cJ27_nextEntry 38 = .ok (.athrow, 1) := dk_191 (dk_at dksJ27_nextEntry_1 14 rfl rfl)
theorem dJ27_nextEntry_39 : decode cJ27_nextEntry 39 = .ok (.aload_n 0, 1) := dk_42 (dk_at dksJ27_nextEntry_1 15 rfl rfl)
theorem dJ27_nextEntry_40 : decode cJ27_nextEntry 40 = .ok (.aload_n 1, 1) := dk_43 (dk_at dksJ27_nextEntry_1 16 rfl rfl)
theorem dJ27_nextEntry_41 : decode cJ27_nextEntry 41 = .ok (.invokestatic 35, 3) := dk_184 0 35 (dk_at dksJ27_nextEntry_1 17 rfl rfl)
theorem dJ27_nextEntry_44 : decode cJ27_nextEntry 44 = .ok (.putfield 26, 3) := dk_181 0 26 (dk_at dksJ27_nextEntry_1 20 rfl rfl)
theorem dJ27_nextEntry_47 : decode cJ27_nextEntry 47 = .ok (.aload_n 0, 1) := dk_42 (dk_at dksJ27_nextEntry_1 23 rfl rfl)
theorem dJ27_nextEntry_48 : decode cJ27_nextEntry 48 = .ok (.aload_n 1, 1) := dk_43 (dk_at dksJ27_nextEntry_2 0 rfl rfl)
theorem dJ27_nextEntry_49 : decode cJ27_nextEntry 49 = .ok (.putfield 22, 3) := dk_181 0 22 (dk_at dksJ27_nextEntry_2 1 rfl rfl)
theorem dJ27_nextEntry_52 : decode cJ27_nextEntry 52 = .ok (.aload_n 1, 1) := dk_43 (dk_at dksJ27_nextEntry_2 4 rfl rfl)
theorem dJ27_nextEntry_53 : decode cJ27_nextEntry 53 = .ok (.areturn, 1) := dk_176 (dk_at dksJ27_nextEntry_2 5 rfl rfl)
abbrev cJ27_init : ByteArray := prog_79_method_1_code
def yJ27_init : MethodName := ⟨RJ27, "<init>", "(Ljava/util/TreeMap;Ljava/util/TreeMap$Entry;)V"⟩
def dkwJ27_init_1 : List UInt8 := [181, 0, 26, 177]
abbrev dktJ27_init_1 : List UInt8 := dkwJ27_init_1 ++ []
def dkwJ27_init_0 : List UInt8 := [42, 43, 181, 0, 1, 42, 183, 0, 7, 42, 43, 180, 0, 13, 181, 0, 19, 42, 1, 181, 0, 22, 42, 44]
abbrev dktJ27_init_0 : List UInt8 := dkwJ27_init_0 ++ dktJ27_init_1
theorem dksJ27_init_0 : cJ27_init.data.toList.drop 0 = dktJ27_init_0 := by decide +kernel
theorem dksJ27_init_1 : cJ27_init.data.toList.drop 24 = dktJ27_init_1 := dk_seg dksJ27_init_0 24 rfl rfl
theorem dJ27_init_0 : decode cJ27_init 0 = .ok (.aload_n 0, 1) := dk_42 (dk_at dksJ27_init_0 0 rfl rfl)
theorem dJ27_init_1 : decode cJ27_init 1 = .ok (.aload_n 1, 1) := dk_43 (dk_at dksJ27_init_0 1 rfl rfl)
theorem dJ27_init_2 : decode cJ27_init 2 = .ok (.putfield 1, 3) := dk_181 0 1 (dk_at dksJ27_init_0 2 rfl rfl)
theorem dJ27_init_5 : decode cJ27_init 5 = .ok (.aload_n 0, 1) := dk_42 (dk_at dksJ27_init_0 5 rfl rfl)
theorem dJ27_init_6 : decode cJ27_init 6 = .ok (.invokespecial 7, 3) := dk_183 0 7 (dk_at dksJ27_init_0 6 rfl rfl)
theorem dJ27_init_9 : decode cJ27_init 9 = .ok (.aload_n 0, 1) := dk_42 (dk_at dksJ27_init_0 9 rfl rfl)
theorem dJ27_init_10 : decode cJ27_init 10 = .ok (.aload_n 1, 1) := dk_43 (dk_at dksJ27_init_0 10 rfl rfl)
theorem dJ27_init_11 : decode cJ27_init 11 = .ok (.getfield 13, 3) := dk_180 0 13 (dk_at dksJ27_init_0 11 rfl rfl)
theorem dJ27_init_14 : decode cJ27_init 14 = .ok (.putfield 19, 3) := dk_181 0 19 (dk_at dksJ27_init_0 14 rfl rfl)
theorem dJ27_init_17 : decode cJ27_init 17 = .ok (.aload_n 0, 1) := dk_42 (dk_at dksJ27_init_0 17 rfl rfl)
theorem dJ27_init_18 : decode cJ27_init 18 = .ok (.aconst_null, 1) := dk_1 (dk_at dksJ27_init_0 18 rfl rfl)
theorem dJ27_init_19 : decode cJ27_init 19 = .ok (.putfield 22, 3) := dk_181 0 22 (dk_at dksJ27_init_0 19 rfl rfl)
theorem dJ27_init_22 : decode cJ27_init 22 = .ok (.aload_n 0, 1) := dk_42 (dk_at dksJ27_init_0 22 rfl rfl)
theorem dJ27_init_23 : decode cJ27_init 23 = .ok (.aload_n 2, 1) := dk_44 (dk_at dksJ27_init_0 23 rfl rfl)
theorem dJ27_init_24 : decode cJ27_init 24 = .ok (.putfield 26, 3) := dk_181 0 26 (dk_at dksJ27_init_1 0 rfl rfl)
theorem dJ27_init_27 : decode cJ27_init 27 = .ok (.return_, 1) := dk_177 (dk_at dksJ27_init_1 3 rfl rfl)
theorem q131 : (Jvm.Cond.initialized "java/util/TreeMap$PrivateEntryIterator") ∈ lw_all := lw_g (lw_at lw_m1 34 rfl) rfl
theorem q506 : (Jvm.Cond.instanceMethod ({ cls := "java/util/TreeMap$PrivateEntryIterator", name := "hasNext", desc := "()Z" } : Jvm.MethodName)) ∈ lw_all := lw_g (lw_at lw_m2 169 rfl) rfl
theorem q507 : (Jvm.Cond.publicMethod ({ cls := "java/util/TreeMap$PrivateEntryIterator", name := "hasNext", desc := "()Z" } : Jvm.MethodName)) ∈ lw_tbl := lw_at lw_m2 170 rfl
theorem q508 : (Jvm.Cond.code ({ cls := "java/util/TreeMap$PrivateEntryIterator", name := "hasNext", desc := "()Z" } : Jvm.MethodName) prog_79_method_2_code (1 : Nat) (Option.some Jvm.ClassFile.FieldType.boolean)) ∈ lw_all := lw_g (lw_at lw_m2 171 rfl) rfl
theorem q586 : (Jvm.Cond.declares ({ cls := "java/util/TreeMap$PrivateEntryIterator", name := "nextEntry", desc := "()Ljava/util/TreeMap$Entry;" } : Jvm.MethodName)) ∈ lw_tbl := lw_at lw_m3 9 rfl
theorem q588 : (Jvm.Cond.instanceMethod ({ cls := "java/util/TreeMap$PrivateEntryIterator", name := "nextEntry", desc := "()Ljava/util/TreeMap$Entry;" } : Jvm.MethodName)) ∈ lw_all := lw_g (lw_at lw_m3 11 rfl) rfl
theorem q589 : (Jvm.Cond.code ({ cls := "java/util/TreeMap$PrivateEntryIterator", name := "nextEntry", desc := "()Ljava/util/TreeMap$Entry;" } : Jvm.MethodName) prog_79_method_3_code (2 : Nat) (Option.some (Jvm.ClassFile.FieldType.object "java/util/TreeMap$Entry"))) ∈ lw_all := lw_g (lw_at lw_m3 12 rfl) rfl
theorem q590 : (Jvm.Cond.methodLink "java/util/TreeMap$PrivateEntryIterator" (35 : Nat) ({ cls := "java/util/TreeMap", name := "successor", desc := "(Ljava/util/TreeMap$Entry;)Ljava/util/TreeMap$Entry;" } : Jvm.MethodName)) ∈ lw_all := lw_g (lw_at lw_m3 13 rfl) rfl
theorem q877 : (Jvm.Cond.instanceMethod ({ cls := "java/util/TreeMap$PrivateEntryIterator", name := "<init>", desc := "(Ljava/util/TreeMap;Ljava/util/TreeMap$Entry;)V" } : Jvm.MethodName)) ∈ lw_all := lw_g (lw_at lw_m4 60 rfl) rfl
theorem q878 : (Jvm.Cond.code ({ cls := "java/util/TreeMap$PrivateEntryIterator", name := "<init>", desc := "(Ljava/util/TreeMap;Ljava/util/TreeMap$Entry;)V" } : Jvm.MethodName) prog_79_method_1_code (3 : Nat) (Option.none : Option Jvm.ClassFile.FieldType)) ∈ lw_all := lw_g (lw_at lw_m4 61 rfl) rfl
theorem q879 : (Jvm.Cond.methodLink "java/util/TreeMap$PrivateEntryIterator" (7 : Nat) ({ cls := "java/lang/Object", name := "<init>", desc := "()V" } : Jvm.MethodName)) ∈ lw_all := lw_g (lw_at lw_m4 62 rfl) rfl
theorem q880 : (Jvm.Cond.fieldLink "java/util/TreeMap$PrivateEntryIterator" (26 : Nat) "java/util/TreeMap$PrivateEntryIterator" "next" "Ljava/util/TreeMap$Entry;") ∈ lw_all := lw_g (lw_at lw_m4 63 rfl) rfl
theorem q881 : (Jvm.Cond.fieldLink "java/util/TreeMap$PrivateEntryIterator" (22 : Nat) "java/util/TreeMap$PrivateEntryIterator" "lastReturned" "Ljava/util/TreeMap$Entry;") ∈ lw_all := lw_g (lw_at lw_m4 64 rfl) rfl
theorem q882 : (Jvm.Cond.fieldLink "java/util/TreeMap$PrivateEntryIterator" (19 : Nat) "java/util/TreeMap$PrivateEntryIterator" "expectedModCount" "I") ∈ lw_all := lw_g (lw_at lw_m4 65 rfl) rfl
theorem q883 : (Jvm.Cond.fieldLink "java/util/TreeMap$PrivateEntryIterator" (1 : Nat) "java/util/TreeMap$PrivateEntryIterator" "this$0" "Ljava/util/TreeMap;") ∈ lw_all := lw_g (lw_at lw_m4 66 rfl) rfl
theorem q885 : (Jvm.Cond.soleField "java/util/TreeMap$PrivateEntryIterator" "next") ∈ lw_all := lw_g (lw_at lw_m4 68 rfl) rfl
theorem q887 : (Jvm.Cond.soleField "java/util/TreeMap$PrivateEntryIterator" "lastReturned") ∈ lw_all := lw_g (lw_at lw_m4 70 rfl) rfl
theorem q889 : (Jvm.Cond.soleField "java/util/TreeMap$PrivateEntryIterator" "expectedModCount") ∈ lw_all := lw_g (lw_at lw_m4 72 rfl) rfl
theorem q891 : (Jvm.Cond.soleField "java/util/TreeMap$PrivateEntryIterator" "this$0") ∈ lw_all := lw_g (lw_at lw_m4 74 rfl) rfl
theorem q1905 : (Jvm.Cond.fieldLinkNest "java/util/TreeMap$PrivateEntryIterator" (13 : Nat) "java/util/TreeMap" "modCount" "I" "java/util/TreeMap") ∈ lw_tbl := lw_at lw_m8 128 rfl
/-! java/util/TreeMap$ValueIterator -/
set_option maxRecDepth 100000
def RJ28 : String := "java/util/TreeMap$ValueIterator"
def TJ28 : u_T := fun k => match k with
  | 0 => ("java/util/TreeMap$PrivateEntryIterator", "next", "Ljava/util/TreeMap$Entry;", false)
  | 1 => ("java/util/TreeMap$PrivateEntryIterator", "lastReturned", "Ljava/util/TreeMap$Entry;", false)
  | 2 => ("java/util/TreeMap$PrivateEntryIterator", "expectedModCount", "I", false)
  | _ => ("java/util/TreeMap$PrivateEntryIterator", "this$0", "Ljava/util/TreeMap;", true)
def tyJ28 : Nat → FieldType := fun k => match k with
  | 0 => .object "java/util/TreeMap$Entry"
  | 1 => .object "java/util/TreeMap$Entry"
  | 2 => .int
  | _ => .object "java/util/TreeMap"
abbrev wsJ280 : List Cond := u_ws RJ28 TJ28 4
theorem nmJ28 : ∀ a, a < 4 → ∀ b, b < 4 → a ≠ b → (TJ28 a).2.1 ≠ (TJ28 b).2.1 := by decide +kernel
theorem tyJ28_ok : ∀ k, k < 4 → parseFieldDescriptor (TJ28 k).2.2.1 = some (tyJ28 k) := by decide +kernel
abbrev cJ28_next : ByteArray := prog_80_method_2_code
def yJ28_next : MethodName := ⟨RJ28, "next", "()Ljava/lang/Object;"⟩
def dkwJ28_next_0 : List UInt8 := [42, 182, 0, 7, 180, 0, 13, 176]
abbrev dktJ28_next_0 : List UInt8 := dkwJ28_next_0 ++ []
theorem dksJ28_next_0 : cJ28_next.data.toList.drop 0 = dktJ28_next_0 := by decide +kernel
theorem dJ28_next_0 : decode cJ28_next 0 = .ok (.aload_n 0, 1) := dk_42 (dk_at dksJ28_next_0 0 rfl rfl)
theorem dJ28_next_1 : decode cJ28_next 1 = .ok (.invokevirtual 7, 3) := dk_182 0 7 (dk_at dksJ28_next_0 1 rfl rfl)
theorem dJ28_next_4 : decode cJ28_next 4 = .ok (.getfield 13, 3) := dk_180 0 13 (dk_at dksJ28_next_0 4 rfl rfl)
theorem dJ28_next_7 : decode cJ28_next 7 = .ok (.areturn, 1) := dk_176 (dk_at dksJ28_next_0 7 rfl rfl)
abbrev cJ28_init : ByteArray := prog_80_method_1_code
def yJ28_init : MethodName := ⟨RJ28, "<init>", "(Ljava/util/TreeMap;Ljava/util/TreeMap$Entry;)V"⟩
def dkwJ28_init_0 : List UInt8 := [42, 43, 44, 183, 0, 1, 177]
abbrev dktJ28_init_0 : List UInt8 := dkwJ28_init_0 ++ []
theorem dksJ28_init_0 : cJ28_init.data.toList.drop 0 = dktJ28_init_0 := by decide +kernel
theorem dJ28_init_0 : decode cJ28_init 0 = .ok (.aload_n 0, 1) := dk_42 (dk_at dksJ28_init_0 0 rfl rfl)
theorem dJ28_init_1 : decode cJ28_init 1 = .ok (.aload_n 1, 1) := dk_43 (dk_at dksJ28_init_0 1 rfl rfl)
theorem dJ28_init_2 : decode cJ28_init 2 = .ok (.aload_n 2, 1) := dk_44 (dk_at dksJ28_init_0 2 rfl rfl)
theorem dJ28_init_3 : decode cJ28_init 3 = .ok (.invokespecial 1, 3) := dk_183 0 1 (dk_at dksJ28_init_0 3 rfl rfl)
theorem dJ28_init_6 : decode cJ28_init 6 = .ok (.return_, 1) := dk_177 (dk_at dksJ28_init_0 6 rfl rfl)
theorem q132 : (Jvm.Cond.initialized "java/util/TreeMap$ValueIterator") ∈ lw_all := lw_g (lw_at lw_m1 35 rfl) rfl
theorem q503 : (Jvm.Cond.castable "java/util/TreeMap$ValueIterator" "java/util/Iterator") ∈ lw_tbl := lw_at lw_m2 166 rfl
theorem q504 : (Jvm.Cond.selects "java/util/TreeMap$ValueIterator" ({ cls := "java/util/Iterator", name := "hasNext", desc := "()Z" } : Jvm.MethodName) ({ cls := "java/util/TreeMap$PrivateEntryIterator", name := "hasNext", desc := "()Z" } : Jvm.MethodName)) ∈ lw_all := lw_g (lw_at lw_m2 167 rfl) rfl
theorem q505 : (Jvm.Cond.unhidden "java/util/TreeMap$ValueIterator" "hasNext" "()Z") ∈ lw_tbl := lw_at lw_m2 168 rfl
theorem q579 : (Jvm.Cond.selects "java/util/TreeMap$ValueIterator" ({ cls := "java/util/Iterator", name := "next", desc := "()Ljava/lang/Object;" } : Jvm.MethodName) ({ cls := "java/util/TreeMap$ValueIterator", name := "next", desc := "()Ljava/lang/Object;" } : Jvm.MethodName)) ∈ lw_all := lw_g (lw_at lw_m3 2 rfl) rfl
theorem q580 : (Jvm.Cond.unhidden "java/util/TreeMap$ValueIterator" "next" "()Ljava/lang/Object;") ∈ lw_tbl := lw_at lw_m3 3 rfl
theorem q581 : (Jvm.Cond.instanceMethod ({ cls := "java/util/TreeMap$ValueIterator", name := "next", desc := "()Ljava/lang/Object;" } : Jvm.MethodName)) ∈ lw_all := lw_g (lw_at lw_m3 4 rfl) rfl
theorem q582 : (Jvm.Cond.publicMethod ({ cls := "java/util/TreeMap$ValueIterator", name := "next", desc := "()Ljava/lang/Object;" } : Jvm.MethodName)) ∈ lw_tbl := lw_at lw_m3 5 rfl
theorem q583 : (Jvm.Cond.code ({ cls := "java/util/TreeMap$ValueIterator", name := "next", desc := "()Ljava/lang/Object;" } : Jvm.MethodName) prog_80_method_2_code (1 : Nat) (Option.some (Jvm.ClassFile.FieldType.object "java/lang/Object"))) ∈ lw_all := lw_g (lw_at lw_m3 6 rfl) rfl
theorem q584 : (Jvm.Cond.methodLink "java/util/TreeMap$ValueIterator" (7 : Nat) ({ cls := "java/util/TreeMap$ValueIterator", name := "nextEntry", desc := "()Ljava/util/TreeMap$Entry;" } : Jvm.MethodName)) ∈ lw_all := lw_g (lw_at lw_m3 7 rfl) rfl
theorem q585 : (Jvm.Cond.sameMethod "java/util/TreeMap$ValueIterator" "java/util/TreeMap$PrivateEntryIterator" "nextEntry" "()Ljava/util/TreeMap$Entry;") ∈ lw_all := lw_g (lw_at lw_m3 8 rfl) rfl
theorem q587 : (Jvm.Cond.selects "java/util/TreeMap$ValueIterator" ({ cls := "java/util/TreeMap$ValueIterator", name := "nextEntry", desc := "()Ljava/util/TreeMap$Entry;" } : Jvm.MethodName) ({ cls := "java/util/TreeMap$PrivateEntryIterator", name := "nextEntry", desc := "()Ljava/util/TreeMap$Entry;" } : Jvm.MethodName)) ∈ lw_all := lw_g (lw_at lw_m3 10 rfl) rfl
theorem q868 : (Jvm.Cond.instantiable "java/util/TreeMap$ValueIterator" (4 : Nat)) ∈ lw_all := lw_g (lw_at lw_m4 51 rfl) rfl
theorem q874 : (Jvm.Cond.instanceMethod ({ cls := "java/util/TreeMap$ValueIterator", name := "<init>", desc := "(Ljava/util/TreeMap;Ljava/util/TreeMap$Entry;)V" } : Jvm.MethodName)) ∈ lw_all := lw_g (lw_at lw_m4 57 rfl) rfl
theorem q875 : (Jvm.Cond.code ({ cls := "java/util/TreeMap$ValueIterator", name := "<init>", desc := "(Ljava/util/TreeMap;Ljava/util/TreeMap$Entry;)V" } : Jvm.MethodName) prog_80_method_1_code (3 : Nat) (Option.none : Option Jvm.ClassFile.FieldType)) ∈ lw_all := lw_g (lw_at lw_m4 58 rfl) rfl
theorem q876 : (Jvm.Cond.methodLink "java/util/TreeMap$ValueIterator" (1 : Nat) ({ cls := "java/util/TreeMap$PrivateEntryIterator", name := "<init>", desc := "(Ljava/util/TreeMap;Ljava/util/TreeMap$Entry;)V" } : Jvm.MethodName)) ∈ lw_all := lw_g (lw_at lw_m4 59 rfl) rfl
theorem q884 : (Jvm.Cond.lays "java/util/TreeMap$ValueIterator" "java/util/TreeMap$PrivateEntryIterator" "next" "Ljava/util/TreeMap$Entry;") ∈ lw_all := lw_g (lw_at lw_m4 67 rfl) rfl
theorem q886 : (Jvm.Cond.lays "java/util/TreeMap$ValueIterator" "java/util/TreeMap$PrivateEntryIterator" "lastReturned" "Ljava/util/TreeMap$Entry;") ∈ lw_all := lw_g (lw_at lw_m4 69 rfl) rfl
theorem q888 : (Jvm.Cond.lays "java/util/TreeMap$ValueIterator" "java/util/TreeMap$PrivateEntryIterator" "expectedModCount" "I") ∈ lw_all := lw_g (lw_at lw_m4 71 rfl) rfl
theorem q890 : (Jvm.Cond.laysFinal "java/util/TreeMap$ValueIterator" "java/util/TreeMap$PrivateEntryIterator" "this$0" "Ljava/util/TreeMap;") ∈ lw_all := lw_g (lw_at lw_m4 73 rfl) rfl
theorem q892 : (Jvm.Cond.superclass "java/util/TreeMap$ValueIterator" "java/util/TreeMap$PrivateEntryIterator") ∈ lw_all := lw_g (lw_at lw_m4 75 rfl) rfl
theorem q1134 : (Jvm.Cond.selects "java/util/TreeMap$ValueIterator" ({ cls := "java/lang/Object", name := "getClass", desc := "()Ljava/lang/Class;" } : Jvm.MethodName) ({ cls := "java/lang/Object", name := "getClass", desc := "()Ljava/lang/Class;" } : Jvm.MethodName)) ∈ lw_all := lw_g (lw_at lw_m5 77 rfl) rfl
theorem q1998 : (Jvm.Cond.fieldLink "java/util/TreeMap$ValueIterator" (13 : Nat) "java/util/TreeMap$Entry" "value" "Ljava/lang/Object;") ∈ lw_all := lw_g (lw_at lw_m8 221 rfl) rfl
theorem q3198 : (Jvm.Cond.castable "java/util/TreeMap$ValueIterator" "java/lang/Object") ∈ lw_tbl := lw_at lw_m13 221 rfl
theorem in_J28 : ∀ w ∈ wsJ280, w ∈ lw_all := lw_in wsJ280 [884, 886, 888, 890] (by decide +kernel) (by decide +kernel)
/-! java/lang/StringLatin1 -/
set_option maxRecDepth 100000
def RJ29 : String := "java/lang/StringLatin1"
abbrev cJ29_canEncode : ByteArray := prog_30_method_3_code
def yJ29_canEncode : MethodName := ⟨RJ29, "canEncode", "(C)Z"⟩
def dkwJ29_canEncode_0 : List UInt8 := [26, 17, 0, 255, 163, 0, 7, 4, 167, 0, 4, 3, 172]
abbrev dktJ29_canEncode_0 : List UInt8 := dkwJ29_canEncode_0 ++ []
theorem dksJ29_canEncode_0 : cJ29_canEncode.data.toList.drop 0 = dktJ29_canEncode_0 := by decide +kernel
theorem dJ29_canEncode_0 : decode cJ29_canEncode 0 = .ok (.iload_n 0, 1) := dk_26 (dk_at dksJ29_canEncode_0 0 rfl rfl)
theorem dJ29_canEncode_1 : decode cJ29_canEncode 1 = .ok (.sipush 255, 3) := dk_17 0 255 (dk_at dksJ29_canEncode_0 1 rfl rfl)
theorem dJ29_canEncode_4 : decode cJ29_canEncode 4 = .ok (.if_icmp .gt 7, 3) := dk_163 0 7 (dk_at dksJ29_canEncode_0 4 rfl rfl)
theorem dJ29_canEncode_7 : decode cJ29_canEncode 7 = .ok (.iconst 1, 1) := dk_4 (dk_at dksJ29_canEncode_0 7 rfl rfl)
theorem dJ29_canEncode_8 : decode cJ29_canEncode 8 = .ok (.goto 4, 3) := dk_167 0 4 (dk_at dksJ29_canEncode_0 8 rfl rfl)
theorem dJ29_canEncode_11 : decode cJ29_canEncode 11 = .ok (.iconst 0, 1) := dk_3 (dk_at dksJ29_canEncode_0 11 rfl rfl)
theorem dJ29_canEncode_12 : decode cJ29_canEncode 12 = .ok (.ireturn, 1) := dk_172 (dk_at dksJ29_canEncode_0 12 rfl rfl)
abbrev cJ29_indexOf : ByteArray := prog_30_method_22_code
def yJ29_indexOf : MethodName := ⟨RJ29, "indexOf", "([BIII)I"⟩
def dkwJ29_indexOf_1 : List UInt8 := [161, 0, 5, 2, 172, 42, 27, 28, 29, 184, 0, 95, 172]
abbrev dktJ29_indexOf_1 : List UInt8 := dkwJ29_indexOf_1 ++ []
def dkwJ29_indexOf_0 : List UInt8 := [27, 184, 0, 88, 154, 0, 5, 2, 172, 28, 3, 184, 0, 92, 61, 29, 42, 190, 184, 0, 38, 62, 28, 29]
abbrev dktJ29_indexOf_0 : List UInt8 := dkwJ29_indexOf_0 ++ dktJ29_indexOf_1
theorem dksJ29_indexOf_0 : cJ29_indexOf.data.toList.drop 0 = dktJ29_indexOf_0 := by decide +kernel
theorem dksJ29_indexOf_1 : cJ29_indexOf.data.toList.drop 24 = dktJ29_indexOf_1 := dk_seg dksJ29_indexOf_0 24 rfl rfl
theorem dJ29_indexOf_0 : decode cJ29_indexOf 0 = .ok (.iload_n 1, 1) := dk_27 (dk_at dksJ29_indexOf_0 0 rfl rfl)
theorem dJ29_indexOf_1 : decode cJ29_indexOf 1 = .ok (.invokestatic 88, 3) := dk_184 0 88 (dk_at dksJ29_indexOf_0 1 rfl rfl)
theorem dJ29_indexOf_4 : decode cJ29_indexOf 4 = .ok (.ifCond .ne 5, 3) := dk_154 0 5 (dk_at dksJ29_indexOf_0 4 rfl rfl)
theorem dJ29_indexOf_7 : decode cJ29_indexOf 7 = .ok (.iconst (-1), 1) := dk_2 (dk_at dksJ29_indexOf_0 7 rfl rfl)
theorem dJ29_indexOf_8 : decode cJ29_indexOf 8 = .ok (.ireturn, 1) := dk_172 (dk_at dksJ29_indexOf_0 8 rfl rfl)
theorem dJ29_indexOf_9 : decode cJ29_indexOf 9 = .ok (.iload_n 2, 1) := dk_28 (dk_at dksJ29_indexOf_0 9 rfl rfl)
theorem dJ29_indexOf_10 : decode cJ29_indexOf 10 = .ok (.iconst 0, 1) := dk_3 (dk_at dksJ29_indexOf_0 10 rfl rfl)
theorem dJ29_indexOf_11 : decode cJ29_indexOf 11 = .ok (.invokestatic 92, 3) := dk_184 0 92 (dk_at dksJ29_indexOf_0 11 rfl rfl)
theorem dJ29_indexOf_14 : decode cJ29_indexOf 14 = .ok (.istore_n 2, 1) := dk_61 (dk_at dksJ29_indexOf_0 14 rfl rfl)
theorem dJ29_indexOf_15 : decode cJ29_indexOf 15 = .ok (.iload_n 3, 1) := dk_29 (dk_at dksJ29_indexOf_0 15 rfl rfl)
theorem dJ29_indexOf_16 : decode cJ29_indexOf 16 = .ok (.aload_n 0, 1) := dk_42 (dk_at dksJ29_indexOf_0 16 rfl rfl)
theorem dJ29_indexOf_17 : decode cJ29_indexOf 17 = .ok (.arraylength, 1) := dk_190 (dk_at dksJ29_indexOf_0 17 rfl rfl)
theorem dJ29_indexOf_18 : decode cJ29_indexOf 18 = .ok (.invokestatic 38, 3) := dk_184 0 38 (dk_at dksJ29_indexOf_0 18 rfl rfl)
theorem dJ29_indexOf_21 : decode cJ29_indexOf 21 = .ok (.istore_n 3, 1) := dk_62 (dk_at dksJ29_indexOf_0 21 rfl rfl)
theorem dJ29_indexOf_22 : decode cJ29_indexOf 22 = .ok (.iload_n 2, 1) := dk_28 (dk_at dksJ29_indexOf_0 22 rfl rfl)
theorem dJ29_indexOf_23 : decode cJ29_indexOf 23 = .ok (.iload_n 3, 1) := dk_29 (dk_at dksJ29_indexOf_0 23 rfl rfl)
theorem dJ29_indexOf_24 : decode cJ29_indexOf 24 = .ok (.if_icmp .lt 5, 3) := dk_161 0 5 (dk_at dksJ29_indexOf_1 0 rfl rfl)
theorem dJ29_indexOf_27 : decode cJ29_indexOf 27 = .ok (.iconst (-1), 1) := dk_2 (dk_at dksJ29_indexOf_1 3 rfl rfl)
theorem dJ29_indexOf_28 : decode cJ29_indexOf 28 = .ok (.ireturn, 1) := dk_172 (dk_at dksJ29_indexOf_1 4 rfl rfl)
theorem dJ29_indexOf_29 : decode cJ29_indexOf 29 = .ok (.aload_n 0, 1) := dk_42 (dk_at dksJ29_indexOf_1 5 rfl rfl)
theorem dJ29_indexOf_30 : decode cJ29_indexOf 30 = .ok (.iload_n 1, 1) := dk_27 (dk_at dksJ29_indexOf_1 6 rfl rfl)
theorem dJ29_indexOf_31 : decode cJ29_indexOf 31 = .ok (.iload_n 2, 1) := dk_28 (dk_at dksJ29_indexOf_1 7 rfl rfl)
theorem dJ29_indexOf_32 : decode cJ29_indexOf 32 = .ok (.iload_n 3, 1) := dk_29 (dk_at dksJ29_indexOf_1 8 rfl rfl)
theorem dJ29_indexOf_33 : decode cJ29_indexOf 33 = .ok (.invokestatic 95, 3) := dk_184 0 95 (dk_at dksJ29_indexOf_1 9 rfl rfl)
theorem dJ29_indexOf_36 : decode cJ29_indexOf 36 = .ok (.ireturn, 1) := dk_172 (dk_at dksJ29_indexOf_1 12 rfl rfl)
abbrev cJ29_canEncode_2 : ByteArray := prog_30_method_4_code
def yJ29_canEncode_2 : MethodName := ⟨RJ29, "canEncode", "(I)Z"⟩
def dkwJ29_canEncode_2_0 : List UInt8 := [26, 155, 0, 14, 26, 17, 0, 255, 163, 0, 7, 4, 167, 0, 4, 3, 172]
abbrev dktJ29_canEncode_2_0 : List UInt8 := dkwJ29_canEncode_2_0 ++ []
theorem dksJ29_canEncode_2_0 : cJ29_canEncode_2.data.toList.drop 0 = dktJ29_canEncode_2_0 := by decide +kernel
theorem dJ29_canEncode_2_0 : decode cJ29_canEncode_2 0 = .ok (.iload_n 0, 1) := dk_26 (dk_at dksJ29_canEncode_2_0 0 rfl rfl)
theorem dJ29_canEncode_2_1 : decode cJ29_canEncode_2 1 = .ok (.ifCond .lt 14, 3) := dk_155 0 14 (dk_at dksJ29_canEncode_2_0 1 rfl rfl)
theorem dJ29_canEncode_2_4 : decode cJ29_canEncode_2 4 = .ok (.iload_n 0, 1) := dk_26 (dk_at dksJ29_canEncode_2_0 4 rfl rfl)
theorem dJ29_canEncode_2_5 : decode cJ29_canEncode_2 5 = .ok (.sipush 255, 3) := dk_17 0 255 (dk_at dksJ29_canEncode_2_0 5 rfl rfl)
theorem dJ29_canEncode_2_8 : decode cJ29_canEncode_2 8 = .ok (.if_icmp .gt 7, 3) := dk_163 0 7 (dk_at dksJ29_canEncode_2_0 8 rfl rfl)
theorem dJ29_canEncode_2_11 : decode cJ29_canEncode_2 11 = .ok (.iconst 1, 1) := dk_4 (dk_at dksJ29_canEncode_2_0 11 rfl rfl)
theorem dJ29_canEncode_2_12 : decode cJ29_canEncode_2 12 = .ok (.goto 4, 3) := dk_167 0 4 (dk_at dksJ29_canEncode_2_0 12 rfl rfl)
theorem dJ29_canEncode_2_15 : decode cJ29_canEncode_2 15 = .ok (.iconst 0, 1) := dk_3 (dk_at dksJ29_canEncode_2_0 15 rfl rfl)
theorem dJ29_canEncode_2_16 : decode cJ29_canEncode_2 16 = .ok (.ireturn, 1) := dk_172 (dk_at dksJ29_canEncode_2_0 16 rfl rfl)
abbrev cJ29_indexOfChar : ByteArray := prog_30_method_23_code
def yJ29_indexOfChar : MethodName := ⟨RJ29, "indexOfChar", "([BIII)I"⟩
def dkwJ29_indexOfChar_1 : List UInt8 := [172, 132, 5, 1, 167, 255, 235, 2, 172]
abbrev dktJ29_indexOfChar_1 : List UInt8 := dkwJ29_indexOfChar_1 ++ []
def dkwJ29_indexOfChar_0 : List UInt8 := [27, 145, 54, 4, 28, 54, 5, 21, 5, 29, 162, 0, 21, 42, 21, 5, 51, 21, 4, 160, 0, 6, 21, 5]
abbrev dktJ29_indexOfChar_0 : List UInt8 := dkwJ29_indexOfChar_0 ++ dktJ29_indexOfChar_1
theorem dksJ29_indexOfChar_0 : cJ29_indexOfChar.data.toList.drop 0 = dktJ29_indexOfChar_0 := by decide +kernel
theorem dksJ29_indexOfChar_1 : cJ29_indexOfChar.data.toList.drop 24 = dktJ29_indexOfChar_1 := dk_seg dksJ29_indexOfChar_0 24 rfl rfl
theorem dJ29_indexOfChar_0 : decode cJ29_indexOfChar 0 = .ok (.iload_n 1, 1) := dk_27 (dk_at dksJ29_indexOfChar_0 0 rfl rfl)
theorem dJ29_indexOfChar_1 : decode cJ29_indexOfChar 1 = .ok (.i2b, 1) := dk_145 (dk_at dksJ29_indexOfChar_0 1 rfl rfl)
theorem dJ29_indexOfChar_2 : decode cJ29_indexOfChar 2 = .ok (.istore 4, 2) := dk_54 4 (dk_at dksJ29_indexOfChar_0 2 rfl rfl)
theorem dJ29_indexOfChar_4 : decode cJ29_indexOfChar 4 = .ok (.iload_n 2, 1) := dk_28 (dk_at dksJ29_indexOfChar_0 4 rfl rfl)
theorem dJ29_indexOfChar_5 : decode cJ29_indexOfChar 5 = .ok (.istore 5, 2) := dk_54 5 (dk_at dksJ29_indexOfChar_0 5 rfl rfl)
theorem dJ29_indexOfChar_7 : decode cJ29_indexOfChar 7 = .ok (.iload 5, 2) := dk_21 5 (dk_at dksJ29_indexOfChar_0 7 rfl rfl)
theorem dJ29_indexOfChar_9 : decode cJ29_indexOfChar 9 = .ok (.iload_n 3, 1) := dk_29 (dk_at dksJ29_indexOfChar_0 9 rfl rfl)
theorem dJ29_indexOfChar_10 : decode cJ29_indexOfChar 10 = .ok (.if_icmp .ge 21, 3) := dk_162 0 21 (dk_at dksJ29_indexOfChar_0 10 rfl rfl)
theorem dJ29_indexOfChar_13 : decode cJ29_indexOfChar 13 = .ok (.aload_n 0, 1) := dk_42 (dk_at dksJ29_indexOfChar_0 13 rfl rfl)
theorem dJ29_indexOfChar_14 : decode cJ29_indexOfChar 14 = .ok (.iload 5, 2) := dk_21 5 (dk_at dksJ29_indexOfChar_0 14 rfl rfl)
theorem dJ29_indexOfChar_16 : decode cJ29_indexOfChar 16 = .ok (.baload, 1) := dk_51 (dk_at dksJ29_indexOfChar_0 16 rfl rfl)
theorem dJ29_indexOfChar_17 : decode cJ29_indexOfChar 17 = .ok (.iload 4, 2) := dk_21 4 (dk_at dksJ29_indexOfChar_0 17 rfl rfl)
theorem dJ29_indexOfChar_19 : decode cJ29_indexOfChar 19 = .ok (.if_icmp .ne 6, 3) := dk_160 0 6 (dk_at dksJ29_indexOfChar_0 19 rfl rfl)
theorem dJ29_indexOfChar_22 : decode cJ29_indexOfChar 22 = .ok (.iload 5, 2) := dk_21 5 (dk_at dksJ29_indexOfChar_0 22 rfl rfl)
theorem dJ29_indexOfChar_24 : decode cJ29_indexOfChar 24 = .ok (.ireturn, 1) := dk_172 (dk_at dksJ29_indexOfChar_1 0 rfl rfl)
theorem dJ29_indexOfChar_25 : decode cJ29_indexOfChar 25 = .ok (.iinc 5 1, 3) := dk_132 5 1 (dk_at dksJ29_indexOfChar_1 1 rfl rfl)
theorem dJ29_indexOfChar_28 : decode cJ29_indexOfChar 28 = .ok (.goto (-21), 3) := dk_167 255 235 (dk_at dksJ29_indexOfChar_1 4 rfl rfl)
theorem dJ29_indexOfChar_31 : decode cJ29_indexOfChar 31 = .ok (.iconst (-1), 1) := dk_2 (dk_at dksJ29_indexOfChar_1 7 rfl rfl)
theorem dJ29_indexOfChar_32 : decode cJ29_indexOfChar 32 = .ok (.ireturn, 1) := dk_172 (dk_at dksJ29_indexOfChar_1 8 rfl rfl)
theorem q133 : (Jvm.Cond.initialized "java/lang/StringLatin1") ∈ lw_all := lw_g (lw_at lw_m1 36 rfl) rfl
theorem q946 : (Jvm.Cond.static ({ cls := "java/lang/StringLatin1", name := "hashCode", desc := "([B)I" } : Jvm.MethodName)) ∈ lw_all := lw_g (lw_at lw_m4 129 rfl) rfl
theorem q947 : (Jvm.Cond.code ({ cls := "java/lang/StringLatin1", name := "hashCode", desc := "([B)I" } : Jvm.MethodName) prog_30_method_21_code (1 : Nat) (Option.some Jvm.ClassFile.FieldType.int)) ∈ lw_all := lw_g (lw_at lw_m4 130 rfl) rfl
theorem q948 : (Jvm.Cond.methodLink "java/lang/StringLatin1" (84 : Nat) ({ cls := "jdk/internal/util/ArraysSupport", name := "vectorizedHashCode", desc := "(Ljava/lang/Object;IIII)I" } : Jvm.MethodName)) ∈ lw_all := lw_g (lw_at lw_m4 131 rfl) rfl
theorem q1188 : (Jvm.Cond.static ({ cls := "java/lang/StringLatin1", name := "compareTo", desc := "([B[B)I" } : Jvm.MethodName)) ∈ lw_all := lw_g (lw_at lw_m5 131 rfl) rfl
theorem q1189 : (Jvm.Cond.code ({ cls := "java/lang/StringLatin1", name := "compareTo", desc := "([B[B)I" } : Jvm.MethodName) prog_30_method_14_code (4 : Nat) (Option.some Jvm.ClassFile.FieldType.int)) ∈ lw_all := lw_g (lw_at lw_m5 132 rfl) rfl
theorem q1190 : (Jvm.Cond.methodLink "java/lang/StringLatin1" (34 : Nat) ({ cls := "java/lang/StringLatin1", name := "compareTo", desc := "([B[BII)I" } : Jvm.MethodName)) ∈ lw_all := lw_g (lw_at lw_m5 133 rfl) rfl
theorem q1191 : (Jvm.Cond.static ({ cls := "java/lang/StringLatin1", name := "compareTo", desc := "([B[BII)I" } : Jvm.MethodName)) ∈ lw_all := lw_g (lw_at lw_m5 134 rfl) rfl
theorem q1192 : (Jvm.Cond.code ({ cls := "java/lang/StringLatin1", name := "compareTo", desc := "([B[BII)I" } : Jvm.MethodName) prog_30_method_15_code (6 : Nat) (Option.some Jvm.ClassFile.FieldType.int)) ∈ lw_all := lw_g (lw_at lw_m5 135 rfl) rfl
theorem q1193 : (Jvm.Cond.methodLink "java/lang/StringLatin1" (38 : Nat) ({ cls := "java/lang/Math", name := "min", desc := "(II)I" } : Jvm.MethodName)) ∈ lw_all := lw_g (lw_at lw_m5 136 rfl) rfl
theorem q1196 : (Jvm.Cond.methodLink "java/lang/StringLatin1" (44 : Nat) ({ cls := "jdk/internal/util/ArraysSupport", name := "mismatch", desc := "([B[BI)I" } : Jvm.MethodName)) ∈ lw_all := lw_g (lw_at lw_m5 139 rfl) rfl
theorem q1297 : (Jvm.Cond.methodLink "java/lang/StringLatin1" (50 : Nat) ({ cls := "java/lang/StringLatin1", name := "getChar", desc := "([BI)C" } : Jvm.MethodName)) ∈ lw_all := lw_g (lw_at lw_m6 0 rfl) rfl
theorem q1298 : (Jvm.Cond.static ({ cls := "java/lang/StringLatin1", name := "getChar", desc := "([BI)C" } : Jvm.MethodName)) ∈ lw_all := lw_g (lw_at lw_m6 1 rfl) rfl
theorem q1299 : (Jvm.Cond.code ({ cls := "java/lang/StringLatin1", name := "getChar", desc := "([BI)C" } : Jvm.MethodName) prog_30_method_44_code (2 : Nat) (Option.some Jvm.ClassFile.FieldType.char)) ∈ lw_all := lw_g (lw_at lw_m6 2 rfl) rfl
theorem q1308 : (Jvm.Cond.static ({ cls := "java/lang/StringLatin1", name := "compareToUTF16", desc := "([B[B)I" } : Jvm.MethodName)) ∈ lw_all := lw_g (lw_at lw_m6 11 rfl) rfl
theorem q1309 : (Jvm.Cond.code ({ cls := "java/lang/StringLatin1", name := "compareToUTF16", desc := "([B[B)I" } : Jvm.MethodName) prog_30_method_16_code (4 : Nat) (Option.some Jvm.ClassFile.FieldType.int)) ∈ lw_all := lw_g (lw_at lw_m6 12 rfl) rfl
theorem q1310 : (Jvm.Cond.methodLink "java/lang/StringLatin1" (54 : Nat) ({ cls := "java/lang/StringLatin1", name := "length", desc := "([B)I" } : Jvm.MethodName)) ∈ lw_all := lw_g (lw_at lw_m6 13 rfl) rfl
theorem q1311 : (Jvm.Cond.static ({ cls := "java/lang/StringLatin1", name := "length", desc := "([B)I" } : Jvm.MethodName)) ∈ lw_all := lw_g (lw_at lw_m6 14 rfl) rfl
theorem q1312 : (Jvm.Cond.code ({ cls := "java/lang/StringLatin1", name := "length", desc := "([B)I" } : Jvm.MethodName) prog_30_method_5_code (1 : Nat) (Option.some Jvm.ClassFile.FieldType.int)) ∈ lw_all := lw_g (lw_at lw_m6 15 rfl) rfl
theorem q1313 : (Jvm.Cond.methodLink "java/lang/StringLatin1" (58 : Nat) ({ cls := "java/lang/StringUTF16", name := "length", desc := "([B)I" } : Jvm.MethodName)) ∈ lw_all := lw_g (lw_at lw_m6 16 rfl) rfl
theorem q1314 : (Jvm.Cond.methodLink "java/lang/StringLatin1" (59 : Nat) ({ cls := "java/lang/StringLatin1", name := "compareToUTF16Values", desc := "([B[BII)I" } : Jvm.MethodName)) ∈ lw_all := lw_g (lw_at lw_m6 17 rfl) rfl
theorem q1315 : (Jvm.Cond.static ({ cls := "java/lang/StringLatin1", name := "compareToUTF16Values", desc := "([B[BII)I" } : Jvm.MethodName)) ∈ lw_all := lw_g (lw_at lw_m6 18 rfl) rfl
theorem q1316 : (Jvm.Cond.code ({ cls := "java/lang/StringLatin1", name := "compareToUTF16Values", desc := "([B[BII)I" } : Jvm.MethodName) prog_30_method_18_code (8 : Nat) (Option.some Jvm.ClassFile.FieldType.int)) ∈ lw_all := lw_g (lw_at lw_m6 19 rfl) rfl
theorem q1317 : (Jvm.Cond.methodLink "java/lang/StringLatin1" (65 : Nat) ({ cls := "java/lang/StringUTF16", name := "getChar", desc := "([BI)C" } : Jvm.MethodName)) ∈ lw_all := lw_g (lw_at lw_m6 20 rfl) rfl
theorem q1357 : (Jvm.Cond.static ({ cls := "java/lang/StringLatin1", name := "compareToUTF16", desc := "([B[BII)I" } : Jvm.MethodName)) ∈ lw_all := lw_g (lw_at lw_m6 60 rfl) rfl
theorem q1358 : (Jvm.Cond.code ({ cls := "java/lang/StringLatin1", name := "compareToUTF16", desc := "([B[BII)I" } : Jvm.MethodName) prog_30_method_17_code (4 : Nat) (Option.some Jvm.ClassFile.FieldType.int)) ∈ lw_all := lw_g (lw_at lw_m6 61 rfl) rfl
theorem q1359 : (Jvm.Cond.methodLink "java/lang/StringLatin1" (62 : Nat) ({ cls := "java/lang/String", name := "checkOffset", desc := "(II)V" } : Jvm.MethodName)) ∈ lw_all := lw_g (lw_at lw_m6 62 rfl) rfl
theorem q1417 : (Jvm.Cond.static ({ cls := "java/lang/StringLatin1", name := "equals", desc := "([B[B)Z" } : Jvm.MethodName)) ∈ lw_all := lw_g (lw_at lw_m6 120 rfl) rfl
theorem q1418 : (Jvm.Cond.code ({ cls := "java/lang/StringLatin1", name := "equals", desc := "([B[B)Z" } : Jvm.MethodName) prog_30_method_13_code (3 : Nat) (Option.some Jvm.ClassFile.FieldType.boolean)) ∈ lw_all := lw_g (lw_at lw_m6 121 rfl) rfl
theorem q2573 : (Jvm.Cond.static ({ cls := "java/lang/StringLatin1", name := "canEncode", desc := "(C)Z" } : Jvm.MethodName)) ∈ lw_all := lw_g (lw_at lw_m11 76 rfl) rfl
theorem q2574 : (Jvm.Cond.code ({ cls := "java/lang/StringLatin1", name := "canEncode", desc := "(C)Z" } : Jvm.MethodName) prog_30_method_3_code (1 : Nat) (Option.some Jvm.ClassFile.FieldType.boolean)) ∈ lw_all := lw_g (lw_at lw_m11 77 rfl) rfl
theorem q2580 : (Jvm.Cond.static ({ cls := "java/lang/StringLatin1", name := "inflate", desc := "([BI[BII)V" } : Jvm.MethodName)) ∈ lw_all := lw_g (lw_at lw_m11 83 rfl) rfl
theorem q2581 : (Jvm.Cond.code ({ cls := "java/lang/StringLatin1", name := "inflate", desc := "([BI[BII)V" } : Jvm.MethodName) prog_30_method_50_code (5 : Nat) (Option.none : Option Jvm.ClassFile.FieldType)) ∈ lw_all := lw_g (lw_at lw_m11 84 rfl) rfl
theorem q2582 : (Jvm.Cond.methodLink "java/lang/StringLatin1" (240 : Nat) ({ cls := "java/lang/StringUTF16", name := "inflate", desc := "([BI[BII)V" } : Jvm.MethodName)) ∈ lw_all := lw_g (lw_at lw_m11 85 rfl) rfl
theorem q2619 : (Jvm.Cond.static ({ cls := "java/lang/StringLatin1", name := "fillNull", desc := "([BII)V" } : Jvm.MethodName)) ∈ lw_all := lw_g (lw_at lw_m11 122 rfl) rfl
theorem q2620 : (Jvm.Cond.code ({ cls := "java/lang/StringLatin1", name := "fillNull", desc := "([BII)V" } : Jvm.MethodName) prog_30_method_48_code (3 : Nat) (Option.none : Option Jvm.ClassFile.FieldType)) ∈ lw_all := lw_g (lw_at lw_m11 123 rfl) rfl
theorem q2621 : (Jvm.Cond.methodLink "java/lang/StringLatin1" (236 : Nat) ({ cls := "java/util/Arrays", name := "fill", desc := "([BIIB)V" } : Jvm.MethodName)) ∈ lw_all := lw_g (lw_at lw_m11 124 rfl) rfl
theorem q2699 : (Jvm.Cond.static ({ cls := "java/lang/StringLatin1", name := "indexOf", desc := "([BIII)I" } : Jvm.MethodName)) ∈ lw_all := lw_g (lw_at lw_m11 202 rfl) rfl
theorem q2700 : (Jvm.Cond.code ({ cls := "java/lang/StringLatin1", name := "indexOf", desc := "([BIII)I" } : Jvm.MethodName) prog_30_method_22_code (4 : Nat) (Option.some Jvm.ClassFile.FieldType.int)) ∈ lw_all := lw_g (lw_at lw_m11 203 rfl) rfl
theorem q2701 : (Jvm.Cond.methodLink "java/lang/StringLatin1" (88 : Nat) ({ cls := "java/lang/StringLatin1", name := "canEncode", desc := "(I)Z" } : Jvm.MethodName)) ∈ lw_all := lw_g (lw_at lw_m11 204 rfl) rfl
theorem q2702 : (Jvm.Cond.static ({ cls := "java/lang/StringLatin1", name := "canEncode", desc := "(I)Z" } : Jvm.MethodName)) ∈ lw_all := lw_g (lw_at lw_m11 205 rfl) rfl
theorem q2703 : (Jvm.Cond.code ({ cls := "java/lang/StringLatin1", name := "canEncode", desc := "(I)Z" } : Jvm.MethodName) prog_30_method_4_code (1 : Nat) (Option.some Jvm.ClassFile.FieldType.boolean)) ∈ lw_all := lw_g (lw_at lw_m11 206 rfl) rfl
theorem q2704 : (Jvm.Cond.methodLink "java/lang/StringLatin1" (92 : Nat) ({ cls := "java/lang/Math", name := "max", desc := "(II)I" } : Jvm.MethodName)) ∈ lw_all := lw_g (lw_at lw_m11 207 rfl) rfl
theorem q2705 : (Jvm.Cond.methodLink "java/lang/StringLatin1" (95 : Nat) ({ cls := "java/lang/StringLatin1", name := "indexOfChar", desc := "([BIII)I" } : Jvm.MethodName)) ∈ lw_all := lw_g (lw_at lw_m11 208 rfl) rfl
theorem q2706 : (Jvm.Cond.static ({ cls := "java/lang/StringLatin1", name := "indexOfChar", desc := "([BIII)I" } : Jvm.MethodName)) ∈ lw_all := lw_g (lw_at lw_m11 209 rfl) rfl
theorem q2707 : (Jvm.Cond.code ({ cls := "java/lang/StringLatin1", name := "indexOfChar", desc := "([BIII)I" } : Jvm.MethodName) prog_30_method_23_code (6 : Nat) (Option.some Jvm.ClassFile.FieldType.int)) ∈ lw_all := lw_g (lw_at lw_m11 210 rfl) rfl
/-! jdk/internal/util/ArraysSupport -/
set_option maxRecDepth 100000
def RJ30 : String := "jdk/internal/util/ArraysSupport"
abbrev cJ30_newLength : ByteArray := prog_85_method_27_code
def yJ30_newLength : MethodName := ⟨RJ30, "newLength", "(III)I"⟩
def dkwJ30_newLength_1 : List UInt8 := [184, 0, 201, 172]
abbrev dktJ30_newLength_1 : List UInt8 := dkwJ30_newLength_1 ++ []
def dkwJ30_newLength_0 : List UInt8 := [26, 27, 28, 184, 0, 194, 96, 62, 3, 29, 162, 0, 11, 29, 18, 200, 163, 0, 5, 29, 172, 26, 27]
abbrev dktJ30_newLength_0 : List UInt8 := dkwJ30_newLength_0 ++ dktJ30_newLength_1
theorem dksJ30_newLength_0 : cJ30_newLength.data.toList.drop 0 = dktJ30_newLength_0 := by decide +kernel
theorem dksJ30_newLength_1 : cJ30_newLength.data.toList.drop 23 = dktJ30_newLength_1 := dk_seg dksJ30_newLength_0 23 rfl rfl
theorem dJ30_newLength_0 : decode cJ30_newLength 0 = .ok (.iload_n 0, 1) := dk_26 (dk_at dksJ30_newLength_0 0 rfl rfl)
theorem dJ30_newLength_1 : decode cJ30_newLength 1 = .ok (.iload_n 1, 1) := dk_27 (dk_at dksJ30_newLength_0 1 rfl rfl)
theorem dJ30_newLength_2 : decode cJ30_newLength 2 = .ok (.iload_n 2, 1) := dk_28 (dk_at dksJ30_newLength_0 2 rfl rfl)
theorem dJ30_newLength_3 : decode cJ30_newLength 3 = .ok (.invokestatic 194, 3) := dk_184 0 194 (dk_at dksJ30_newLength_0 3 rfl rfl)
theorem dJ30_newLength_6 : decode cJ30_newLength 6 = .ok (.iadd, 1) := dk_96 (dk_at dksJ30_newLength_0 6 rfl rfl)
theorem dJ30_newLength_7 : decode cJ30_newLength 7 = .ok (.istore_n 3, 1) := dk_62 (dk_at dksJ30_newLength_0 7 rfl rfl)
theorem dJ30_newLength_8 : decode cJ30_newLength 8 = .ok (.iconst 0, 1) := dk_3 (dk_at dksJ30_newLength_0 8 rfl rfl)
theorem dJ30_newLength_9 : decode cJ30_newLength 9 = .ok (.iload_n 3, 1) := dk_29 (dk_at dksJ30_newLength_0 9 rfl rfl)
theorem dJ30_newLength_10 : decode cJ30_newLength 10 = .ok (.if_icmp .ge 11, 3) := dk_162 0 11 (dk_at dksJ30_newLength_0 10 rfl rfl)
theorem dJ30_newLength_13 : decode cJ30_newLength 13 = .ok (.iload_n 3, 1) := dk_29 (dk_at dksJ30_newLength_0 13 rfl rfl)
theorem dJ30_newLength_14 : decode cJ30_newLength 14 = .ok (.ldc 200, 2) := dk_18 200 (dk_at dksJ30_newLength_0 14 rfl rfl)
theorem dJ30_newLength_16 : decode cJ30_newLength 16 = .ok (.if_icmp .gt 5, 3) := dk_163 0 5 (dk_at dksJ30_newLength_0 16 rfl rfl)
theorem dJ30_newLength_19 : decode cJ30_newLength 19 = .ok (.iload_n 3, 1) := dk_29 (dk_at dksJ30_newLength_0 19 rfl rfl)
theorem dJ30_newLength_20 : decode cJ30_newLength 20 = .ok (.ireturn, 1) := dk_172 (dk_at dksJ30_newLength_0 20 rfl rfl)
theorem dJ30_newLength_21 : decode cJ30_newLength 21 = .ok (.iload_n 0, 1) := dk_26 (dk_at dksJ30_newLength_0 21 rfl rfl)
theorem dJ30_newLength_22 : decode cJ30_newLength 22 = .ok (.iload_n 1, 1) := dk_27 (dk_at dksJ30_newLength_0 22 rfl rfl)
theorem dJ30_newLength_23 : decode cJ30_newLength 23 = .ok (.invokestatic 201, 3) := dk_184 0 201 (dk_at dksJ30_newLength_1 0 rfl rfl)
theorem dJ30_newLength_26 : decode cJ30_newLength 26 = .ok (.ireturn, 1) := dk_172 (dk_at dksJ30_newLength_1 3 rfl rfl)
abbrev cJ30_hugeLength : ByteArray := prog_85_method_28_code
def yJ30_hugeLength : MethodName := ⟨RJ30, "hugeLength", "(II)I"⟩
def dkwJ30_hugeLength_2 : List UInt8 := [191, 28, 18, 200, 163, 0, 6, 18, 200, 172, 28, 172]
abbrev dktJ30_hugeLength_2 : List UInt8 := dkwJ30_hugeLength_2 ++ []
def dkwJ30_hugeLength_1 : List UInt8 := [26, 182, 0, 98, 18, 208, 182, 0, 94, 27, 182, 0, 98, 18, 210, 182, 0, 94, 182, 0, 101, 183, 0, 212]
abbrev dktJ30_hugeLength_1 : List UInt8 := dkwJ30_hugeLength_1 ++ dktJ30_hugeLength_2
def dkwJ30_hugeLength_0 : List UInt8 := [26, 27, 96, 61, 28, 156, 0, 44, 187, 0, 204, 89, 187, 0, 89, 89, 183, 0, 91, 18, 206, 182, 0, 94]
abbrev dktJ30_hugeLength_0 : List UInt8 := dkwJ30_hugeLength_0 ++ dktJ30_hugeLength_1
theorem dksJ30_hugeLength_0 : cJ30_hugeLength.data.toList.drop 0 = dktJ30_hugeLength_0 := by decide +kernel
theorem dksJ30_hugeLength_1 : cJ30_hugeLength.data.toList.drop 24 = dktJ30_hugeLength_1 := dk_seg dksJ30_hugeLength_0 24 rfl rfl
theorem dksJ30_hugeLength_2 : cJ30_hugeLength.data.toList.drop 48 = dktJ30_hugeLength_2 := dk_seg dksJ30_hugeLength_1 24 rfl rfl
theorem dJ30_hugeLength_0 : decode cJ30_hugeLength 0 = .ok (.iload_n 0, 1) := dk_26 (dk_at dksJ30_hugeLength_0 0 rfl rfl)
theorem dJ30_hugeLength_1 : decode cJ30_hugeLength 1 = .ok (.iload_n 1, 1) := dk_27 (dk_at dksJ30_hugeLength_0 1 rfl rfl)
theorem dJ30_hugeLength_2 : decode cJ30_hugeLength 2 = .ok (.iadd, 1) := dk_96 (dk_at dksJ30_hugeLength_0 2 rfl rfl)
theorem dJ30_hugeLength_3 : decode cJ30_hugeLength 3 = .ok (.istore_n 2, 1) := dk_61 (dk_at dksJ30_hugeLength_0 3 rfl rfl)
theorem dJ30_hugeLength_4 : decode cJ30_hugeLength 4 = .ok (.iload_n 2, 1) := dk_28 (dk_at dksJ30_hugeLength_0 4 rfl rfl)
theorem dJ30_hugeLength_5 : decode cJ30_hugeLength 5 = .ok (.ifCond .ge 44, 3) := dk_156 0 44 (dk_at dksJ30_hugeLength_0 5 rfl rfl)
theorem dJ30_hugeLength_8 : decode cJ30_hugeLength 8 = .ok (.new 204, 3) := dk_187 0 204 (dk_at dksJ30_hugeLength_0 8 rfl rfl)
theorem dJ30_hugeLength_11 : decode cJ30_hugeLength 11 = .ok (.dup, 1) := dk_89 (dk_at dksJ30_hugeLength_0 11 rfl rfl)
theorem dJ30_hugeLength_12 : decode cJ30_hugeLength 12 = .ok (.new 89, 3) := dk_187 0 89 (dk_at dksJ30_hugeLength_0 12 rfl rfl)
theorem dJ30_hugeLength_15 : decode cJ30_hugeLength 15 = .ok (.dup, 1) := dk_89 (dk_at dksJ30_hugeLength_0 15 rfl rfl)
theorem dJ30_hugeLength_16 : decode cJ30_hugeLength 16 = .ok (.invokespecial 91, 3) := dk_183 0 91 (dk_at dksJ30_hugeLength_0 16 rfl rfl)
theorem dJ30_hugeLength_19 : decode cJ30_hugeLength 19 = .ok (.ldc 206, 2) := dk_18 206 (dk_at dksJ30_hugeLength_0 19 rfl rfl)
theorem dJ30_hugeLength_21 : decode cJ30_hugeLength 21 = .ok (.invokevirtual 94, 3) := dk_182 0 94 (dk_at dksJ30_hugeLength_0 21 rfl rfl)
theorem dJ30_hugeLength_24 : decode cJ30_hugeLength 24 = .ok (.iload_n 0, 1) := dk_26 (dk_at dksJ30_hugeLength_1 0 rfl rfl)
theorem dJ30_hugeLength_25 : decode cJ30_hugeLength 25 = .ok (.invokevirtual 98, 3) := dk_182 0 98 (dk_at dksJ30_hugeLength_1 1 rfl rfl)
theorem dJ30_hugeLength_28 : decode cJ30_hugeLength 28 = .ok (.ldc 208, 2) := dk_18 208 (dk_at dksJ30_hugeLength_1 4 rfl rfl)
theorem dJ30_hugeLength_30 : decode cJ30_hugeLength 30 = .ok (.invokevirtual 94, 3) := dk_182 0 94 (dk_at dksJ30_hugeLength_1 6 rfl rfl)
theorem dJ30_hugeLength_33 : decode cJ30_hugeLength 33 = .ok (.iload_n 1, 1) := dk_27 (dk_at dksJ30_hugeLength_1 9 rfl rfl)
theorem dJ30_hugeLength_34 : decode cJ30_hugeLength 34 = .ok (.invokevirtual 98, 3) := dk_182 0 98 (dk_at dksJ30_hugeLength_1 10 rfl rfl)
theorem dJ30_hugeLength_37 : decode cJ30_hugeLength 37 = .ok (.ldc 210, 2) := dk_18 210 (dk_at dksJ30_hugeLength_1 13 rfl rfl)
theorem dJ30_hugeLength_39 : decode cJ30_hugeLength 39 = .ok (.invokevirtual 94, 3) := dk_182 0 94 (dk_at dksJ30_hugeLength_1 15 rfl rfl)
theorem dJ30_hugeLength_42 : decode cJ30_hugeLength 42 = .ok (.invokevirtual 101, 3) := dk_182 0 101 (dk_at dksJ30_hugeLength_1 18 rfl rfl)
theorem dJ30_hugeLength_45 : decode cJ30_hugeLength 45 = .ok (.invokespecial 212, 3) := dk_183 0 212 (dk_at dksJ30_hugeLength_1 21 rfl rfl)
theorem dJ30_hugeLength_48 : decode cJ30_hugeLength 48 = .ok (.athrow, 1) := dk_191 (dk_at dksJ30_hugeLength_2 0 rfl rfl)
theorem dJ30_hugeLength_49 : decode cJ30_hugeLength 49 = .ok (.iload_n 2, 1) := dk_28 (dk_at dksJ30_hugeLength_2 1 rfl rfl)
theorem dJ30_hugeLength_50 : decode cJ30_hugeLength 50 = .ok (.ldc 200, 2) := dk_18 200 (dk_at dksJ30_hugeLength_2 2 rfl rfl)
theorem dJ30_hugeLength_52 : decode cJ30_hugeLength 52 = .ok (.if_icmp .gt 6, 3) := dk_163 0 6 (dk_at dksJ30_hugeLength_2 4 rfl rfl)
theorem dJ30_hugeLength_55 : decode cJ30_hugeLength 55 = .ok (.ldc 200, 2) := dk_18 200 (dk_at dksJ30_hugeLength_2 7 rfl rfl)
theorem dJ30_hugeLength_57 : decode cJ30_hugeLength 57 = .ok (.ireturn, 1) := dk_172 (dk_at dksJ30_hugeLength_2 9 rfl rfl)
theorem dJ30_hugeLength_58 : decode cJ30_hugeLength 58 = .ok (.iload_n 2, 1) := dk_28 (dk_at dksJ30_hugeLength_2 10 rfl rfl)
theorem dJ30_hugeLength_59 : decode cJ30_hugeLength 59 = .ok (.ireturn, 1) := dk_172 (dk_at dksJ30_hugeLength_2 11 rfl rfl)
theorem q134 : (Jvm.Cond.initialized "jdk/internal/util/ArraysSupport") ∈ lw_all := lw_g (lw_at lw_m1 37 rfl) rfl
theorem q949 : (Jvm.Cond.static ({ cls := "jdk/internal/util/ArraysSupport", name := "vectorizedHashCode", desc := "(Ljava/lang/Object;IIII)I" } : Jvm.MethodName)) ∈ lw_all := lw_g (lw_at lw_m4 132 rfl) rfl
theorem q950 : (Jvm.Cond.code ({ cls := "jdk/internal/util/ArraysSupport", name := "vectorizedHashCode", desc := "(Ljava/lang/Object;IIII)I" } : Jvm.MethodName) prog_85_method_4_code (5 : Nat) (Option.some Jvm.ClassFile.FieldType.int)) ∈ lw_all := lw_g (lw_at lw_m4 133 rfl) rfl
theorem q951 : (Jvm.Cond.classLink "jdk/internal/util/ArraysSupport" (60 : Nat) "[B") ∈ lw_all := lw_g (lw_at lw_m4 134 rfl) rfl
theorem q952 : (Jvm.Cond.methodLink "jdk/internal/util/ArraysSupport" (62 : Nat) ({ cls := "jdk/internal/util/ArraysSupport", name := "signedHashCode", desc := "(I[BII)I" } : Jvm.MethodName)) ∈ lw_all := lw_g (lw_at lw_m4 135 rfl) rfl
theorem q953 : (Jvm.Cond.static ({ cls := "jdk/internal/util/ArraysSupport", name := "signedHashCode", desc := "(I[BII)I" } : Jvm.MethodName)) ∈ lw_all := lw_g (lw_at lw_m4 136 rfl) rfl
theorem q954 : (Jvm.Cond.code ({ cls := "jdk/internal/util/ArraysSupport", name := "signedHashCode", desc := "(I[BII)I" } : Jvm.MethodName) prog_85_method_5_code (6 : Nat) (Option.some Jvm.ClassFile.FieldType.int)) ∈ lw_all := lw_g (lw_at lw_m4 137 rfl) rfl
theorem q955 : (Jvm.Cond.methodLink "jdk/internal/util/ArraysSupport" (66 : Nat) ({ cls := "jdk/internal/util/ArraysSupport", name := "utf16hashCode", desc := "(I[BII)I" } : Jvm.MethodName)) ∈ lw_all := lw_g (lw_at lw_m4 138 rfl) rfl
theorem q956 : (Jvm.Cond.static ({ cls := "jdk/internal/util/ArraysSupport", name := "utf16hashCode", desc := "(I[BII)I" } : Jvm.MethodName)) ∈ lw_all := lw_g (lw_at lw_m4 139 rfl) rfl
theorem q957 : (Jvm.Cond.code ({ cls := "jdk/internal/util/ArraysSupport", name := "utf16hashCode", desc := "(I[BII)I" } : Jvm.MethodName) prog_85_method_10_code (6 : Nat) (Option.some Jvm.ClassFile.FieldType.int)) ∈ lw_all := lw_g (lw_at lw_m4 140 rfl) rfl
theorem q958 : (Jvm.Cond.fieldLink "jdk/internal/util/ArraysSupport" (106 : Nat) "jdk/internal/util/ArraysSupport" "JLA" "Ljdk/internal/access/JavaLangAccess;") ∈ lw_all := lw_g (lw_at lw_m4 141 rfl) rfl
theorem q959 : (Jvm.Cond.laysStatic "jdk/internal/util/ArraysSupport" "JLA" "Ljdk/internal/access/JavaLangAccess;") ∈ lw_tbl := lw_at lw_m4 142 rfl
theorem q960 : (Jvm.Cond.interfaceEntry "jdk/internal/util/ArraysSupport" (110 : Nat)) ∈ lw_tbl := lw_at lw_m4 143 rfl
theorem q961 : (Jvm.Cond.methodLink "jdk/internal/util/ArraysSupport" (110 : Nat) ({ cls := "jdk/internal/access/JavaLangAccess", name := "getUTF16Char", desc := "([BI)C" } : Jvm.MethodName)) ∈ lw_all := lw_g (lw_at lw_m4 144 rfl) rfl
theorem q982 : (Jvm.Cond.classLink "jdk/internal/util/ArraysSupport" (69 : Nat) "[C") ∈ lw_all := lw_g (lw_at lw_m4 165 rfl) rfl
theorem q983 : (Jvm.Cond.methodLink "jdk/internal/util/ArraysSupport" (71 : Nat) ({ cls := "jdk/internal/util/ArraysSupport", name := "hashCode", desc := "(I[CII)I" } : Jvm.MethodName)) ∈ lw_all := lw_g (lw_at lw_m4 166 rfl) rfl
theorem q984 : (Jvm.Cond.static ({ cls := "jdk/internal/util/ArraysSupport", name := "hashCode", desc := "(I[CII)I" } : Jvm.MethodName)) ∈ lw_all := lw_g (lw_at lw_m4 167 rfl) rfl
theorem q985 : (Jvm.Cond.code ({ cls := "jdk/internal/util/ArraysSupport", name := "hashCode", desc := "(I[CII)I" } : Jvm.MethodName) prog_85_method_7_code (6 : Nat) (Option.some Jvm.ClassFile.FieldType.int)) ∈ lw_all := lw_g (lw_at lw_m4 168 rfl) rfl
theorem q986 : (Jvm.Cond.methodLink "jdk/internal/util/ArraysSupport" (75 : Nat) ({ cls := "jdk/internal/util/ArraysSupport", name := "hashCode", desc := "(I[BII)I" } : Jvm.MethodName)) ∈ lw_all := lw_g (lw_at lw_m4 169 rfl) rfl
theorem q987 : (Jvm.Cond.static ({ cls := "jdk/internal/util/ArraysSupport", name := "hashCode", desc := "(I[BII)I" } : Jvm.MethodName)) ∈ lw_all := lw_g (lw_at lw_m4 170 rfl) rfl
theorem q988 : (Jvm.Cond.code ({ cls := "jdk/internal/util/ArraysSupport", name := "hashCode", desc := "(I[BII)I" } : Jvm.MethodName) prog_85_method_6_code (6 : Nat) (Option.some Jvm.ClassFile.FieldType.int)) ∈ lw_all := lw_g (lw_at lw_m4 171 rfl) rfl
theorem q989 : (Jvm.Cond.classLink "jdk/internal/util/ArraysSupport" (77 : Nat) "[S") ∈ lw_all := lw_g (lw_at lw_m4 172 rfl) rfl
theorem q990 : (Jvm.Cond.methodLink "jdk/internal/util/ArraysSupport" (79 : Nat) ({ cls := "jdk/internal/util/ArraysSupport", name := "hashCode", desc := "(I[SII)I" } : Jvm.MethodName)) ∈ lw_all := lw_g (lw_at lw_m4 173 rfl) rfl
theorem q991 : (Jvm.Cond.static ({ cls := "jdk/internal/util/ArraysSupport", name := "hashCode", desc := "(I[SII)I" } : Jvm.MethodName)) ∈ lw_all := lw_g (lw_at lw_m4 174 rfl) rfl
theorem q992 : (Jvm.Cond.code ({ cls := "jdk/internal/util/ArraysSupport", name := "hashCode", desc := "(I[SII)I" } : Jvm.MethodName) prog_85_method_8_code (6 : Nat) (Option.some Jvm.ClassFile.FieldType.int)) ∈ lw_all := lw_g (lw_at lw_m4 175 rfl) rfl
theorem q993 : (Jvm.Cond.classLink "jdk/internal/util/ArraysSupport" (82 : Nat) "[I") ∈ lw_all := lw_g (lw_at lw_m4 176 rfl) rfl
theorem q994 : (Jvm.Cond.methodLink "jdk/internal/util/ArraysSupport" (84 : Nat) ({ cls := "jdk/internal/util/ArraysSupport", name := "hashCode", desc := "(I[III)I" } : Jvm.MethodName)) ∈ lw_all := lw_g (lw_at lw_m4 177 rfl) rfl
theorem q995 : (Jvm.Cond.static ({ cls := "jdk/internal/util/ArraysSupport", name := "hashCode", desc := "(I[III)I" } : Jvm.MethodName)) ∈ lw_all := lw_g (lw_at lw_m4 178 rfl) rfl
theorem q996 : (Jvm.Cond.code ({ cls := "jdk/internal/util/ArraysSupport", name := "hashCode", desc := "(I[III)I" } : Jvm.MethodName) prog_85_method_9_code (6 : Nat) (Option.some Jvm.ClassFile.FieldType.int)) ∈ lw_all := lw_g (lw_at lw_m4 179 rfl) rfl
theorem q1197 : (Jvm.Cond.static ({ cls := "jdk/internal/util/ArraysSupport", name := "mismatch", desc := "([B[BI)I" } : Jvm.MethodName)) ∈ lw_all := lw_g (lw_at lw_m5 140 rfl) rfl
theorem q1198 : (Jvm.Cond.code ({ cls := "jdk/internal/util/ArraysSupport", name := "mismatch", desc := "([B[BI)I" } : Jvm.MethodName) prog_85_method_13_code (4 : Nat) (Option.some Jvm.ClassFile.FieldType.int)) ∈ lw_all := lw_g (lw_at lw_m5 141 rfl) rfl
theorem q1199 : (Jvm.Cond.fieldLink "jdk/internal/util/ArraysSupport" (126 : Nat) "jdk/internal/misc/Unsafe" "ARRAY_BYTE_BASE_OFFSET" "I") ∈ lw_all := lw_g (lw_at lw_m5 142 rfl) rfl
theorem q1201 : (Jvm.Cond.fieldLink "jdk/internal/util/ArraysSupport" (129 : Nat) "jdk/internal/util/ArraysSupport" "LOG2_ARRAY_BYTE_INDEX_SCALE" "I") ∈ lw_all := lw_g (lw_at lw_m5 144 rfl) rfl
theorem q1202 : (Jvm.Cond.laysStatic "jdk/internal/util/ArraysSupport" "LOG2_ARRAY_BYTE_INDEX_SCALE" "I") ∈ lw_tbl := lw_at lw_m5 145 rfl
theorem q1203 : (Jvm.Cond.methodLink "jdk/internal/util/ArraysSupport" (122 : Nat) ({ cls := "jdk/internal/util/ArraysSupport", name := "vectorizedMismatch", desc := "(Ljava/lang/Object;JLjava/lang/Object;JII)I" } : Jvm.MethodName)) ∈ lw_all := lw_g (lw_at lw_m5 146 rfl) rfl
theorem q1204 : (Jvm.Cond.static ({ cls := "jdk/internal/util/ArraysSupport", name := "vectorizedMismatch", desc := "(Ljava/lang/Object;JLjava/lang/Object;JII)I" } : Jvm.MethodName)) ∈ lw_all := lw_g (lw_at lw_m5 147 rfl) rfl
theorem q1205 : (Jvm.Cond.code ({ cls := "jdk/internal/util/ArraysSupport", name := "vectorizedMismatch", desc := "(Ljava/lang/Object;JLjava/lang/Object;JII)I" } : Jvm.MethodName) prog_85_method_3_code (19 : Nat) (Option.some Jvm.ClassFile.FieldType.int)) ∈ lw_all := lw_g (lw_at lw_m5 148 rfl) rfl
theorem q1206 : (Jvm.Cond.fieldLink "jdk/internal/util/ArraysSupport" (20 : Nat) "jdk/internal/util/ArraysSupport" "LOG2_ARRAY_LONG_INDEX_SCALE" "I") ∈ lw_all := lw_g (lw_at lw_m5 149 rfl) rfl
theorem q1207 : (Jvm.Cond.laysStatic "jdk/internal/util/ArraysSupport" "LOG2_ARRAY_LONG_INDEX_SCALE" "I") ∈ lw_tbl := lw_at lw_m5 150 rfl
theorem q1208 : (Jvm.Cond.fieldLink "jdk/internal/util/ArraysSupport" (26 : Nat) "jdk/internal/util/ArraysSupport" "U" "Ljdk/internal/misc/Unsafe;") ∈ lw_all := lw_g (lw_at lw_m5 151 rfl) rfl
theorem q1209 : (Jvm.Cond.laysStatic "jdk/internal/util/ArraysSupport" "U" "Ljdk/internal/misc/Unsafe;") ∈ lw_tbl := lw_at lw_m5 152 rfl
theorem q1210 : (Jvm.Cond.methodLink "jdk/internal/util/ArraysSupport" (30 : Nat) ({ cls := "jdk/internal/misc/Unsafe", name := "getLongUnaligned", desc := "(Ljava/lang/Object;J)J" } : Jvm.MethodName)) ∈ lw_all := lw_g (lw_at lw_m5 153 rfl) rfl
theorem q1262 : (Jvm.Cond.fieldLink "jdk/internal/util/ArraysSupport" (36 : Nat) "jdk/internal/util/ArraysSupport" "BIG_ENDIAN" "Z") ∈ lw_all := lw_g (lw_at lw_m5 205 rfl) rfl
theorem q1263 : (Jvm.Cond.laysStatic "jdk/internal/util/ArraysSupport" "BIG_ENDIAN" "Z") ∈ lw_tbl := lw_at lw_m5 206 rfl
theorem q1264 : (Jvm.Cond.methodLink "jdk/internal/util/ArraysSupport" (40 : Nat) ({ cls := "java/lang/Long", name := "numberOfLeadingZeros", desc := "(J)I" } : Jvm.MethodName)) ∈ lw_all := lw_g (lw_at lw_m5 207 rfl) rfl
theorem q1268 : (Jvm.Cond.fieldLink "jdk/internal/util/ArraysSupport" (46 : Nat) "jdk/internal/util/ArraysSupport" "LOG2_BYTE_BIT_SIZE" "I") ∈ lw_all := lw_g (lw_at lw_m5 211 rfl) rfl
theorem q1269 : (Jvm.Cond.laysStatic "jdk/internal/util/ArraysSupport" "LOG2_BYTE_BIT_SIZE" "I") ∈ lw_tbl := lw_at lw_m5 212 rfl
theorem q1270 : (Jvm.Cond.methodLink "jdk/internal/util/ArraysSupport" (49 : Nat) ({ cls := "java/lang/Long", name := "numberOfTrailingZeros", desc := "(J)I" } : Jvm.MethodName)) ∈ lw_all := lw_g (lw_at lw_m5 213 rfl) rfl
theorem q1276 : (Jvm.Cond.fieldLink "jdk/internal/util/ArraysSupport" (51 : Nat) "jdk/internal/util/ArraysSupport" "LOG2_ARRAY_INT_INDEX_SCALE" "I") ∈ lw_all := lw_g (lw_at lw_m5 219 rfl) rfl
theorem q1277 : (Jvm.Cond.laysStatic "jdk/internal/util/ArraysSupport" "LOG2_ARRAY_INT_INDEX_SCALE" "I") ∈ lw_tbl := lw_at lw_m5 220 rfl
theorem q1278 : (Jvm.Cond.methodLink "jdk/internal/util/ArraysSupport" (54 : Nat) ({ cls := "jdk/internal/misc/Unsafe", name := "getIntUnaligned", desc := "(Ljava/lang/Object;J)I" } : Jvm.MethodName)) ∈ lw_all := lw_g (lw_at lw_m5 221 rfl) rfl
theorem q1295 : (Jvm.Cond.methodLink "jdk/internal/util/ArraysSupport" (58 : Nat) ({ cls := "java/lang/Integer", name := "numberOfLeadingZeros", desc := "(I)I" } : Jvm.MethodName)) ∈ lw_all := lw_g (lw_at lw_m5 238 rfl) rfl
theorem q1296 : (Jvm.Cond.methodLink "jdk/internal/util/ArraysSupport" (11 : Nat) ({ cls := "java/lang/Integer", name := "numberOfTrailingZeros", desc := "(I)I" } : Jvm.MethodName)) ∈ lw_all := lw_g (lw_at lw_m5 239 rfl) rfl
theorem q1524 : (Jvm.Cond.static ({ cls := "jdk/internal/util/ArraysSupport", name := "newLength", desc := "(III)I" } : Jvm.MethodName)) ∈ lw_all := lw_g (lw_at lw_m6 227 rfl) rfl
theorem q1525 : (Jvm.Cond.code ({ cls := "jdk/internal/util/ArraysSupport", name := "newLength", desc := "(III)I" } : Jvm.MethodName) prog_85_method_27_code (4 : Nat) (Option.some Jvm.ClassFile.FieldType.int)) ∈ lw_all := lw_g (lw_at lw_m6 228 rfl) rfl
theorem q1526 : (Jvm.Cond.methodLink "jdk/internal/util/ArraysSupport" (194 : Nat) ({ cls := "java/lang/Math", name := "max", desc := "(II)I" } : Jvm.MethodName)) ∈ lw_all := lw_g (lw_at lw_m6 229 rfl) rfl
theorem q1529 : (Jvm.Cond.constant "jdk/internal/util/ArraysSupport" (200 : Nat) (2147483639 : Int32)) ∈ lw_all := lw_g (lw_at lw_m6 232 rfl) rfl
theorem q1530 : (Jvm.Cond.methodLink "jdk/internal/util/ArraysSupport" (201 : Nat) ({ cls := "jdk/internal/util/ArraysSupport", name := "hugeLength", desc := "(II)I" } : Jvm.MethodName)) ∈ lw_all := lw_g (lw_at lw_m6 233 rfl) rfl
theorem q1531 : (Jvm.Cond.static ({ cls := "jdk/internal/util/ArraysSupport", name := "hugeLength", desc := "(II)I" } : Jvm.MethodName)) ∈ lw_all := lw_g (lw_at lw_m6 234 rfl) rfl
theorem q1532 : (Jvm.Cond.code ({ cls := "jdk/internal/util/ArraysSupport", name := "hugeLength", desc := "(II)I" } : Jvm.MethodName) prog_85_method_28_code (3 : Nat) (Option.some Jvm.ClassFile.FieldType.int)) ∈ lw_all := lw_g (lw_at lw_m6 235 rfl) rfl
/-! java/util/HashMap$Node -/
set_option maxRecDepth 100000
def RJ31 : String := "java/util/HashMap$Node"
abbrev cJ31_getKey : ByteArray := prog_53_method_2_code
def yJ31_getKey : MethodName := ⟨RJ31, "getKey", "()Ljava/lang/Object;"⟩
theorem dJ31_getKey_0 : decode cJ31_getKey 0 = .ok (.aload_n 0, 1) := by decide +kernel
theorem dJ31_getKey_1 : decode cJ31_getKey 1 = .ok (.getfield 13, 3) := by decide +kernel
theorem dJ31_getKey_4 : decode cJ31_getKey 4 = .ok (.areturn, 1) := by decide +kernel
abbrev cJ31_init : ByteArray := prog_53_method_1_code
def yJ31_init : MethodName := ⟨RJ31, "<init>", "(ILjava/lang/Object;Ljava/lang/Object;Ljava/util/HashMap$Node;)V"⟩
def dkwJ31_init_1 : List UInt8 := [181, 0, 20, 177]
abbrev dktJ31_init_1 : List UInt8 := dkwJ31_init_1 ++ []
def dkwJ31_init_0 : List UInt8 := [42, 183, 0, 1, 42, 27, 181, 0, 7, 42, 44, 181, 0, 13, 42, 45, 181, 0, 17, 42, 25, 4]
abbrev dktJ31_init_0 : List UInt8 := dkwJ31_init_0 ++ dktJ31_init_1
theorem dksJ31_init_0 : cJ31_init.data.toList.drop 0 = dktJ31_init_0 := by decide +kernel
theorem dksJ31_init_1 : cJ31_init.data.toList.drop 22 = dktJ31_init_1 := dk_seg dksJ31_init_0 22 rfl rfl
theorem dJ31_init_0 : decode cJ31_init 0 = .ok (.aload_n 0, 1) := dk_42 (dk_at dksJ31_init_0 0 rfl rfl)
theorem dJ31_init_1 : decode cJ31_init 1 = .ok (.invokespecial 1, 3) := dk_183 0 1 (dk_at dksJ31_init_0 1 rfl rfl)
theorem dJ31_init_4 : decode cJ31_init 4 = .ok (.aload_n 0, 1) := dk_42 (dk_at dksJ31_init_0 4 rfl rfl)
theorem dJ31_init_5 : decode cJ31_init 5 = .ok (.iload_n 1, 1) := dk_27 (dk_at dksJ31_init_0 5 rfl rfl)
theorem dJ31_init_6 : decode cJ31_init 6 = .ok (.putfield 7, 3) := dk_181 0 7 (dk_at dksJ31_init_0 6 rfl rfl)
theorem dJ31_init_9 : decode cJ31_init 9 = .ok (.aload_n 0, 1) := dk_42 (dk_at dksJ31_init_0 9 rfl rfl)
theorem dJ31_init_10 : decode cJ31_init 10 = .ok (.aload_n 2, 1) := dk_44 (dk_at dksJ31_init_0 10 rfl rfl)
theorem dJ31_init_11 : decode cJ31_init 11 = .ok (.putfield 13, 3) := dk_181 0 13 (dk_at dksJ31_init_0 11 rfl rfl)
theorem dJ31_init_14 : decode cJ31_init 14 = .ok (.aload_n 0, 1) := dk_42 (dk_at dksJ31_init_0 14 rfl rfl)
theorem dJ31_init_15 : decode cJ31_init 15 = .ok (.aload_n 3, 1) := dk_45 (dk_at dksJ31_init_0 15 rfl rfl)
theorem dJ31_init_16 : decode cJ31_init 16 = .ok (.putfield 17, 3) := dk_181 0 17 (dk_at dksJ31_init_0 16 rfl rfl)
theorem dJ31_init_19 : decode cJ31_init 19 = .ok (.aload_n 0, 1) := dk_42 (dk_at dksJ31_init_0 19 rfl rfl)
theorem dJ31_init_20 : decode cJ31_init 20 = .ok (.aload 4, 2) := dk_25 4 (dk_at dksJ31_init_0 20 rfl rfl)
theorem dJ31_init_22 : decode cJ31_init 22 = .ok (.putfield 20, 3) := dk_181 0 20 (dk_at dksJ31_init_1 0 rfl rfl)
theorem dJ31_init_25 : decode cJ31_init 25 = .ok (.return_, 1) := dk_177 (dk_at dksJ31_init_1 3 rfl rfl)
theorem q135 : (Jvm.Cond.initialized "java/util/HashMap$Node") ∈ lw_all := lw_g (lw_at lw_m1 38 rfl) rfl
theorem q557 : (Jvm.Cond.declares ({ cls := "java/util/HashMap$Node", name := "getKey", desc := "()Ljava/lang/Object;" } : Jvm.MethodName)) ∈ lw_tbl := lw_at lw_m2 220 rfl
theorem q560 : (Jvm.Cond.instanceMethod ({ cls := "java/util/HashMap$Node", name := "getKey", desc := "()Ljava/lang/Object;" } : Jvm.MethodName)) ∈ lw_all := lw_g (lw_at lw_m2 223 rfl) rfl
theorem q561 : (Jvm.Cond.code ({ cls := "java/util/HashMap$Node", name := "getKey", desc := "()Ljava/lang/Object;" } : Jvm.MethodName) prog_53_method_2_code (1 : Nat) (Option.some (Jvm.ClassFile.FieldType.object "java/lang/Object"))) ∈ lw_all := lw_g (lw_at lw_m2 224 rfl) rfl
theorem q1042 : (Jvm.Cond.instanceMethod ({ cls := "java/util/HashMap$Node", name := "<init>", desc := "(ILjava/lang/Object;Ljava/lang/Object;Ljava/util/HashMap$Node;)V" } : Jvm.MethodName)) ∈ lw_all := lw_g (lw_at lw_m4 225 rfl) rfl
theorem q1043 : (Jvm.Cond.code ({ cls := "java/util/HashMap$Node", name := "<init>", desc := "(ILjava/lang/Object;Ljava/lang/Object;Ljava/util/HashMap$Node;)V" } : Jvm.MethodName) prog_53_method_1_code (5 : Nat) (Option.none : Option Jvm.ClassFile.FieldType)) ∈ lw_all := lw_g (lw_at lw_m4 226 rfl) rfl
theorem q1044 : (Jvm.Cond.methodLink "java/util/HashMap$Node" (1 : Nat) ({ cls := "java/lang/Object", name := "<init>", desc := "()V" } : Jvm.MethodName)) ∈ lw_all := lw_g (lw_at lw_m4 227 rfl) rfl
theorem q1049 : (Jvm.Cond.fieldLink "java/util/HashMap$Node" (7 : Nat) "java/util/HashMap$Node" "hash" "I") ∈ lw_all := lw_g (lw_at lw_m4 232 rfl) rfl
theorem q1055 : (Jvm.Cond.fieldLink "java/util/HashMap$Node" (13 : Nat) "java/util/HashMap$Node" "key" "Ljava/lang/Object;") ∈ lw_all := lw_g (lw_at lw_m4 238 rfl) rfl
theorem q1062 : (Jvm.Cond.fieldLink "java/util/HashMap$Node" (17 : Nat) "java/util/HashMap$Node" "value" "Ljava/lang/Object;") ∈ lw_all := lw_g (lw_at lw_m5 5 rfl) rfl
theorem q1067 : (Jvm.Cond.fieldLink "java/util/HashMap$Node" (20 : Nat) "java/util/HashMap$Node" "next" "Ljava/util/HashMap$Node;") ∈ lw_all := lw_g (lw_at lw_m5 10 rfl) rfl
theorem q1079 : (Jvm.Cond.soleField "java/util/HashMap$Node" "hash") ∈ lw_all := lw_g (lw_at lw_m5 22 rfl) rfl
theorem q1081 : (Jvm.Cond.soleField "java/util/HashMap$Node" "key") ∈ lw_all := lw_g (lw_at lw_m5 24 rfl) rfl
theorem q1083 : (Jvm.Cond.soleField "java/util/HashMap$Node" "value") ∈ lw_all := lw_g (lw_at lw_m5 26 rfl) rfl
theorem q1085 : (Jvm.Cond.soleField "java/util/HashMap$Node" "next") ∈ lw_all := lw_g (lw_at lw_m5 28 rfl) rfl
theorem q1123 : (Jvm.Cond.selects "java/util/HashMap$Node" ({ cls := "java/lang/Object", name := "getClass", desc := "()Ljava/lang/Class;" } : Jvm.MethodName) ({ cls := "java/lang/Object", name := "getClass", desc := "()Ljava/lang/Class;" } : Jvm.MethodName)) ∈ lw_all := lw_g (lw_at lw_m5 66 rfl) rfl
theorem q3171 : (Jvm.Cond.castable "java/util/HashMap$Node" "java/lang/Object") ∈ lw_tbl := lw_at lw_m13 194 rfl
/-! java/util/LinkedHashMap$Entry -/
set_option maxRecDepth 100000
def RJ32 : String := "java/util/LinkedHashMap$Entry"
def TJ32 : u_T := fun k => match k with
  | 0 => ("java/util/HashMap$Node", "hash", "I", true)
  | 1 => ("java/util/HashMap$Node", "key", "Ljava/lang/Object;", true)
  | 2 => ("java/util/HashMap$Node", "value", "Ljava/lang/Object;", false)
  | 3 => ("java/util/HashMap$Node", "next", "Ljava/util/HashMap$Node;", false)
  | 4 => ("java/util/LinkedHashMap$Entry", "before", "Ljava/util/LinkedHashMap$Entry;", false)
  | _ => ("java/util/LinkedHashMap$Entry", "after", "Ljava/util/LinkedHashMap$Entry;", false)
def tyJ32 : Nat → FieldType := fun k => match k with
  | 0 => .int
  | 1 => .object "java/lang/Object"
  | 2 => .object "java/lang/Object"
  | 3 => .object "java/util/HashMap$Node"
  | 4 => .object "java/util/LinkedHashMap$Entry"
  | _ => .object "java/util/LinkedHashMap$Entry"
abbrev wsJ320 : List Cond := u_ws RJ32 TJ32 6
theorem nmJ32 : ∀ a, a < 6 → ∀ b, b < 6 → a ≠ b → (TJ32 a).2.1 ≠ (TJ32 b).2.1 := by decide +kernel
theorem tyJ32_ok : ∀ k, k < 6 → parseFieldDescriptor (TJ32 k).2.2.1 = some (tyJ32 k) := by decide +kernel
abbrev cJ32_init : ByteArray := prog_58_method_1_code
def yJ32_init : MethodName := ⟨RJ32, "<init>", "(ILjava/lang/Object;Ljava/lang/Object;Ljava/util/HashMap$Node;)V"⟩
def dkwJ32_init_0 : List UInt8 := [42, 27, 44, 45, 25, 4, 183, 0, 1, 177]
abbrev dktJ32_init_0 : List UInt8 := dkwJ32_init_0 ++ []
theorem dksJ32_init_0 : cJ32_init.data.toList.drop 0 = dktJ32_init_0 := by decide +kernel
theorem dJ32_init_0 : decode cJ32_init 0 = .ok (.aload_n 0, 1) := dk_42 (dk_at dksJ32_init_0 0 rfl rfl)
theorem dJ32_init_1 : decode cJ32_init 1 = .ok (.iload_n 1, 1) := dk_27 (dk_at dksJ32_init_0 1 rfl rfl)
theorem dJ32_init_2 : decode cJ32_init 2 = .ok (.aload_n 2, 1) := dk_44 (dk_at dksJ32_init_0 2 rfl rfl)
theorem dJ32_init_3 : decode cJ32_init 3 = .ok (.aload_n 3, 1) := dk_45 (dk_at dksJ32_init_0 3 rfl rfl)
theorem dJ32_init_4 : decode cJ32_init 4 = .ok (.aload 4, 2) := dk_25 4 (dk_at dksJ32_init_0 4 rfl rfl)
theorem dJ32_init_6 : decode cJ32_init 6 = .ok (.invokespecial 1, 3) := dk_183 0 1 (dk_at dksJ32_init_0 6 rfl rfl)
theorem dJ32_init_9 : decode cJ32_init 9 = .ok (.return_, 1) := dk_177 (dk_at dksJ32_init_0 9 rfl rfl)
theorem q136 : (Jvm.Cond.initialized "java/util/LinkedHashMap$Entry") ∈ lw_all := lw_g (lw_at lw_m1 39 rfl) rfl
theorem q556 : (Jvm.Cond.sameMethod "java/util/LinkedHashMap$Entry" "java/util/HashMap$Node" "getKey" "()Ljava/lang/Object;") ∈ lw_all := lw_g (lw_at lw_m2 219 rfl) rfl
theorem q559 : (Jvm.Cond.selects "java/util/LinkedHashMap$Entry" ({ cls := "java/util/LinkedHashMap$Entry", name := "getKey", desc := "()Ljava/lang/Object;" } : Jvm.MethodName) ({ cls := "java/util/HashMap$Node", name := "getKey", desc := "()Ljava/lang/Object;" } : Jvm.MethodName)) ∈ lw_all := lw_g (lw_at lw_m2 222 rfl) rfl
theorem q1037 : (Jvm.Cond.instantiable "java/util/LinkedHashMap$Entry" (6 : Nat)) ∈ lw_all := lw_g (lw_at lw_m4 220 rfl) rfl
theorem q1039 : (Jvm.Cond.instanceMethod ({ cls := "java/util/LinkedHashMap$Entry", name := "<init>", desc := "(ILjava/lang/Object;Ljava/lang/Object;Ljava/util/HashMap$Node;)V" } : Jvm.MethodName)) ∈ lw_all := lw_g (lw_at lw_m4 222 rfl) rfl
theorem q1040 : (Jvm.Cond.code ({ cls := "java/util/LinkedHashMap$Entry", name := "<init>", desc := "(ILjava/lang/Object;Ljava/lang/Object;Ljava/util/HashMap$Node;)V" } : Jvm.MethodName) prog_58_method_1_code (5 : Nat) (Option.none : Option Jvm.ClassFile.FieldType)) ∈ lw_all := lw_g (lw_at lw_m4 223 rfl) rfl
theorem q1041 : (Jvm.Cond.methodLink "java/util/LinkedHashMap$Entry" (1 : Nat) ({ cls := "java/util/HashMap$Node", name := "<init>", desc := "(ILjava/lang/Object;Ljava/lang/Object;Ljava/util/HashMap$Node;)V" } : Jvm.MethodName)) ∈ lw_all := lw_g (lw_at lw_m4 224 rfl) rfl
theorem q1053 : (Jvm.Cond.sameField "java/util/LinkedHashMap$Entry" "java/util/HashMap$Node" "hash" "I") ∈ lw_all := lw_g (lw_at lw_m4 236 rfl) rfl
theorem q1060 : (Jvm.Cond.sameField "java/util/LinkedHashMap$Entry" "java/util/HashMap$Node" "key" "Ljava/lang/Object;") ∈ lw_all := lw_g (lw_at lw_m5 3 rfl) rfl
theorem q1064 : (Jvm.Cond.sameField "java/util/LinkedHashMap$Entry" "java/util/HashMap$Node" "value" "Ljava/lang/Object;") ∈ lw_all := lw_g (lw_at lw_m5 7 rfl) rfl
theorem q1074 : (Jvm.Cond.lays "java/util/LinkedHashMap$Entry" "java/util/LinkedHashMap$Entry" "before" "Ljava/util/LinkedHashMap$Entry;") ∈ lw_all := lw_g (lw_at lw_m5 17 rfl) rfl
theorem q1075 : (Jvm.Cond.soleField "java/util/LinkedHashMap$Entry" "before") ∈ lw_all := lw_g (lw_at lw_m5 18 rfl) rfl
theorem q1076 : (Jvm.Cond.lays "java/util/LinkedHashMap$Entry" "java/util/LinkedHashMap$Entry" "after" "Ljava/util/LinkedHashMap$Entry;") ∈ lw_all := lw_g (lw_at lw_m5 19 rfl) rfl
theorem q1077 : (Jvm.Cond.soleField "java/util/LinkedHashMap$Entry" "after") ∈ lw_all := lw_g (lw_at lw_m5 20 rfl) rfl
theorem q1078 : (Jvm.Cond.laysFinal "java/util/LinkedHashMap$Entry" "java/util/HashMap$Node" "hash" "I") ∈ lw_all := lw_g (lw_at lw_m5 21 rfl) rfl
theorem q1080 : (Jvm.Cond.laysFinal "java/util/LinkedHashMap$Entry" "java/util/HashMap$Node" "key" "Ljava/lang/Object;") ∈ lw_all := lw_g (lw_at lw_m5 23 rfl) rfl
theorem q1082 : (Jvm.Cond.lays "java/util/LinkedHashMap$Entry" "java/util/HashMap$Node" "value" "Ljava/lang/Object;") ∈ lw_all := lw_g (lw_at lw_m5 25 rfl) rfl
theorem q1084 : (Jvm.Cond.lays "java/util/LinkedHashMap$Entry" "java/util/HashMap$Node" "next" "Ljava/util/HashMap$Node;") ∈ lw_all := lw_g (lw_at lw_m5 27 rfl) rfl
theorem q1086 : (Jvm.Cond.superclass "java/util/LinkedHashMap$Entry" "java/util/HashMap$Node") ∈ lw_all := lw_g (lw_at lw_m5 29 rfl) rfl
theorem q1126 : (Jvm.Cond.selects "java/util/LinkedHashMap$Entry" ({ cls := "java/lang/Object", name := "getClass", desc := "()Ljava/lang/Class;" } : Jvm.MethodName) ({ cls := "java/lang/Object", name := "getClass", desc := "()Ljava/lang/Class;" } : Jvm.MethodName)) ∈ lw_all := lw_g (lw_at lw_m5 69 rfl) rfl
theorem q3189 : (Jvm.Cond.castable "java/util/LinkedHashMap$Entry" "java/lang/Object") ∈ lw_tbl := lw_at lw_m13 212 rfl
theorem q3206 : (Jvm.Cond.castable "java/util/LinkedHashMap$Entry" "java/util/HashMap$Node") ∈ lw_tbl := lw_at lw_m13 229 rfl
theorem in_J32 : ∀ w ∈ wsJ320, w ∈ lw_all := lw_in wsJ320 [1078, 1080, 1082, 1084, 1074, 1076] (by decide +kernel) (by decide +kernel)
/-! java/lang/Math -/
set_option maxRecDepth 100000
def RJ33 : String := "java/lang/Math"
abbrev cJ33_min : ByteArray := prog_26_method_69_code
def yJ33_min : MethodName := ⟨RJ33, "min", "(II)I"⟩
def dkwJ33_min_0 : List UInt8 := [26, 27, 163, 0, 7, 26, 167, 0, 4, 27, 172]
abbrev dktJ33_min_0 : List UInt8 := dkwJ33_min_0 ++ []
theorem dksJ33_min_0 : cJ33_min.data.toList.drop 0 = dktJ33_min_0 := by decide +kernel
theorem dJ33_min_0 : decode cJ33_min 0 = .ok (.iload_n 0, 1) := dk_26 (dk_at dksJ33_min_0 0 rfl rfl)
theorem dJ33_min_1 : decode cJ33_min 1 = .ok (.iload_n 1, 1) := dk_27 (dk_at dksJ33_min_0 1 rfl rfl)
theorem dJ33_min_2 : decode cJ33_min 2 = .ok (.if_icmp .gt 7, 3) := dk_163 0 7 (dk_at dksJ33_min_0 2 rfl rfl)
theorem dJ33_min_5 : decode cJ33_min 5 = .ok (.iload_n 0, 1) := dk_26 (dk_at dksJ33_min_0 5 rfl rfl)
theorem dJ33_min_6 : decode cJ33_min 6 = .ok (.goto 4, 3) := dk_167 0 4 (dk_at dksJ33_min_0 6 rfl rfl)
theorem dJ33_min_9 : decode cJ33_min 9 = .ok (.iload_n 1, 1) := dk_27 (dk_at dksJ33_min_0 9 rfl rfl)
theorem dJ33_min_10 : decode cJ33_min 10 = .ok (.ireturn, 1) := dk_172 (dk_at dksJ33_min_0 10 rfl rfl)
abbrev cJ33_max : ByteArray := prog_26_method_65_code
def yJ33_max : MethodName := ⟨RJ33, "max", "(II)I"⟩
def dkwJ33_max_0 : List UInt8 := [26, 27, 161, 0, 7, 26, 167, 0, 4, 27, 172]
abbrev dktJ33_max_0 : List UInt8 := dkwJ33_max_0 ++ []
theorem dksJ33_max_0 : cJ33_max.data.toList.drop 0 = dktJ33_max_0 := by decide +kernel
theorem dJ33_max_0 : decode cJ33_max 0 = .ok (.iload_n 0, 1) := dk_26 (dk_at dksJ33_max_0 0 rfl rfl)
theorem dJ33_max_1 : decode cJ33_max 1 = .ok (.iload_n 1, 1) := dk_27 (dk_at dksJ33_max_0 1 rfl rfl)
theorem dJ33_max_2 : decode cJ33_max 2 = .ok (.if_icmp .lt 7, 3) := dk_161 0 7 (dk_at dksJ33_max_0 2 rfl rfl)
theorem dJ33_max_5 : decode cJ33_max 5 = .ok (.iload_n 0, 1) := dk_26 (dk_at dksJ33_max_0 5 rfl rfl)
theorem dJ33_max_6 : decode cJ33_max 6 = .ok (.goto 4, 3) := dk_167 0 4 (dk_at dksJ33_max_0 6 rfl rfl)
theorem dJ33_max_9 : decode cJ33_max 9 = .ok (.iload_n 1, 1) := dk_27 (dk_at dksJ33_max_0 9 rfl rfl)
theorem dJ33_max_10 : decode cJ33_max 10 = .ok (.ireturn, 1) := dk_172 (dk_at dksJ33_max_0 10 rfl rfl)
theorem q137 : (Jvm.Cond.initialized "java/lang/Math") ∈ lw_all := lw_g (lw_at lw_m1 40 rfl) rfl
theorem q1194 : (Jvm.Cond.static ({ cls := "java/lang/Math", name := "min", desc := "(II)I" } : Jvm.MethodName)) ∈ lw_all := lw_g (lw_at lw_m5 137 rfl) rfl
theorem q1195 : (Jvm.Cond.code ({ cls := "java/lang/Math", name := "min", desc := "(II)I" } : Jvm.MethodName) prog_26_method_69_code (2 : Nat) (Option.some Jvm.ClassFile.FieldType.int)) ∈ lw_all := lw_g (lw_at lw_m5 138 rfl) rfl
theorem q1527 : (Jvm.Cond.static ({ cls := "java/lang/Math", name := "max", desc := "(II)I" } : Jvm.MethodName)) ∈ lw_all := lw_g (lw_at lw_m6 230 rfl) rfl
theorem q1528 : (Jvm.Cond.code ({ cls := "java/lang/Math", name := "max", desc := "(II)I" } : Jvm.MethodName) prog_26_method_65_code (2 : Nat) (Option.some Jvm.ClassFile.FieldType.int)) ∈ lw_all := lw_g (lw_at lw_m6 231 rfl) rfl
/-! jdk/internal/util/Preconditions -/
set_option maxRecDepth 100000
def RJ36 : String := "jdk/internal/util/Preconditions"
abbrev cJ36_checkIndex : ByteArray := prog_86_method_11_code
def yJ36_checkIndex : MethodName := ⟨RJ36, "checkIndex", "(IILjava/util/function/BiFunction;)I"⟩
def dkwJ36_checkIndex_0 : List UInt8 := [26, 155, 0, 8, 26, 27, 161, 0, 10, 44, 26, 27, 184, 0, 95, 191, 26, 172]
abbrev dktJ36_checkIndex_0 : List UInt8 := dkwJ36_checkIndex_0 ++ []
theorem dksJ36_checkIndex_0 : cJ36_checkIndex.data.toList.drop 0 = dktJ36_checkIndex_0 := by decide +kernel
theorem dJ36_checkIndex_0 : decode cJ36_checkIndex 0 = .ok (.iload_n 0, 1) := dk_26 (dk_at dksJ36_checkIndex_0 0 rfl rfl)
theorem dJ36_checkIndex_1 : decode cJ36_checkIndex 1 = .ok (.ifCond .lt 8, 3) := dk_155 0 8 (dk_at dksJ36_checkIndex_0 1 rfl rfl)
theorem dJ36_checkIndex_4 : decode cJ36_checkIndex 4 = .ok (.iload_n 0, 1) := dk_26 (dk_at dksJ36_checkIndex_0 4 rfl rfl)
theorem dJ36_checkIndex_5 : decode cJ36_checkIndex 5 = .ok (.iload_n 1, 1) := dk_27 (dk_at dksJ36_checkIndex_0 5 rfl rfl)
theorem dJ36_checkIndex_6 : decode cJ36_checkIndex 6 = .ok (.if_icmp .lt 10, 3) := dk_161 0 10 (dk_at dksJ36_checkIndex_0 6 rfl rfl)
theorem dJ36_checkIndex_9 : decode cJ36_checkIndex 9 = .ok (.aload_n 2, 1) := dk_44 (dk_at dksJ36_checkIndex_0 9 rfl rfl)
theorem dJ36_checkIndex_10 : decode cJ36_checkIndex 10 = .ok (.iload_n 0, 1) := dk_26 (dk_at dksJ36_checkIndex_0 10 rfl rfl)
theorem dJ36_checkIndex_11 : decode cJ36_checkIndex 11 = .ok (.iload_n 1, 1) := dk_27 (dk_at dksJ36_checkIndex_0 11 rfl rfl)
theorem dJ36_checkIndex_12 : decode cJ36_checkIndex 12 = .ok (.invokestatic 95, 3) := dk_184 0 95 (dk_at dksJ36_checkIndex_0 12 rfl rfl)
theorem dJ36_checkIndex_15 : decode cJ36_checkIndex 15 = .ok (.athrow, 1) := dk_191 (dk_at dksJ36_checkIndex_0 15 rfl rfl)
theorem dJ36_checkIndex_16 : decode cJ36_checkIndex 16 = .ok (.iload_n 0, 1) := dk_26 (dk_at dksJ36_checkIndex_0 16 rfl rfl)
theorem dJ36_checkIndex_17 : decode cJ36_checkIndex 17 = .ok (.ireturn, 1) := dk_172 (dk_at dksJ36_checkIndex_0 17 rfl rfl)
theorem q141 : (Jvm.Cond.initialized "jdk/internal/util/Preconditions") ∈ lw_all := lw_g (lw_at lw_m1 44 rfl) rfl
theorem q1352 : (Jvm.Cond.laysStatic "jdk/internal/util/Preconditions" "SIOOBE_FORMATTER" "Ljava/util/function/BiFunction;") ∈ lw_tbl := lw_at lw_m6 55 rfl
theorem q1354 : (Jvm.Cond.static ({ cls := "jdk/internal/util/Preconditions", name := "checkFromToIndex", desc := "(IIILjava/util/function/BiFunction;)I" } : Jvm.MethodName)) ∈ lw_all := lw_g (lw_at lw_m6 57 rfl) rfl
theorem q1355 : (Jvm.Cond.code ({ cls := "jdk/internal/util/Preconditions", name := "checkFromToIndex", desc := "(IIILjava/util/function/BiFunction;)I" } : Jvm.MethodName) prog_86_method_12_code (4 : Nat) (Option.some Jvm.ClassFile.FieldType.int)) ∈ lw_all := lw_g (lw_at lw_m6 58 rfl) rfl
theorem q1759 : (Jvm.Cond.static ({ cls := "jdk/internal/util/Preconditions", name := "checkIndex", desc := "(IILjava/util/function/BiFunction;)I" } : Jvm.MethodName)) ∈ lw_all := lw_g (lw_at lw_m7 222 rfl) rfl
theorem q1760 : (Jvm.Cond.code ({ cls := "jdk/internal/util/Preconditions", name := "checkIndex", desc := "(IILjava/util/function/BiFunction;)I" } : Jvm.MethodName) prog_86_method_11_code (3 : Nat) (Option.some Jvm.ClassFile.FieldType.int)) ∈ lw_all := lw_g (lw_at lw_m7 223 rfl) rfl
theorem q2592 : (Jvm.Cond.static ({ cls := "jdk/internal/util/Preconditions", name := "checkFromIndexSize", desc := "(IIILjava/util/function/BiFunction;)I" } : Jvm.MethodName)) ∈ lw_all := lw_g (lw_at lw_m11 95 rfl) rfl
theorem q2593 : (Jvm.Cond.code ({ cls := "jdk/internal/util/Preconditions", name := "checkFromIndexSize", desc := "(IIILjava/util/function/BiFunction;)I" } : Jvm.MethodName) prog_86_method_13_code (4 : Nat) (Option.some Jvm.ClassFile.FieldType.int)) ∈ lw_all := lw_g (lw_at lw_m11 96 rfl) rfl
/-! java/util/Arrays -/
set_option maxRecDepth 100000
def RJ38 : String := "java/util/Arrays"
abbrev cJ38_copyOf : ByteArray := prog_45_method_119_code
def yJ38_copyOf : MethodName := ⟨RJ38, "copyOf", "([Ljava/lang/Object;I)[Ljava/lang/Object;"⟩
def dkwJ38_copyOf_0 : List UInt8 := [42, 27, 42, 182, 0, 86, 184, 1, 44, 176]
abbrev dktJ38_copyOf_0 : List UInt8 := dkwJ38_copyOf_0 ++ []
theorem dksJ38_copyOf_0 : cJ38_copyOf.data.toList.drop 0 = dktJ38_copyOf_0 := by decide +kernel
theorem dJ38_copyOf_0 : decode cJ38_copyOf 0 = .ok (.aload_n 0, 1) := dk_42 (dk_at dksJ38_copyOf_0 0 rfl rfl)
theorem dJ38_copyOf_1 : decode cJ38_copyOf 1 = .ok (.iload_n 1, 1) := dk_27 (dk_at dksJ38_copyOf_0 1 rfl rfl)
theorem dJ38_copyOf_2 : decode cJ38_copyOf 2 = .ok (.aload_n 0, 1) := dk_42 (dk_at dksJ38_copyOf_0 2 rfl rfl)
theorem dJ38_copyOf_3 : decode cJ38_copyOf 3 = .ok (.invokevirtual 86, 3) := dk_182 0 86 (dk_at dksJ38_copyOf_0 3 rfl rfl)
theorem dJ38_copyOf_6 : decode cJ38_copyOf 6 = .ok (.invokestatic 300, 3) := dk_184 1 44 (dk_at dksJ38_copyOf_0 6 rfl rfl)
theorem dJ38_copyOf_9 : decode cJ38_copyOf 9 = .ok (.areturn, 1) := dk_176 (dk_at dksJ38_copyOf_0 9 rfl rfl)
abbrev cJ38_copyOf_2 : ByteArray := prog_45_method_120_code
def yJ38_copyOf_2 : MethodName := ⟨RJ38, "copyOf", "([Ljava/lang/Object;ILjava/lang/Class;)[Ljava/lang/Object;"⟩
def dkwJ38_copyOf_2_1 : List UInt8 := [78, 42, 3, 45, 3, 42, 190, 27, 184, 1, 48, 184, 0, 150, 45, 176]
abbrev dktJ38_copyOf_2_1 : List UInt8 := dkwJ38_copyOf_2_1 ++ []
def dkwJ38_copyOf_2_0 : List UInt8 := [44, 18, 110, 166, 0, 10, 27, 189, 0, 2, 167, 0, 14, 44, 182, 0, 90, 27, 184, 0, 95, 192, 0, 110]
abbrev dktJ38_copyOf_2_0 : List UInt8 := dkwJ38_copyOf_2_0 ++ dktJ38_copyOf_2_1
theorem dksJ38_copyOf_2_0 : cJ38_copyOf_2.data.toList.drop 0 = dktJ38_copyOf_2_0 := by decide +kernel
theorem dksJ38_copyOf_2_1 : cJ38_copyOf_2.data.toList.drop 24 = dktJ38_copyOf_2_1 := dk_seg dksJ38_copyOf_2_0 24 rfl rfl
theorem dJ38_copyOf_2_0 : decode cJ38_copyOf_2 0 = .ok (.aload_n 2, 1) := dk_44 (dk_at dksJ38_copyOf_2_0 0 rfl rfl)
theorem dJ38_copyOf_2_1 : decode cJ38_copyOf_2 1 = .ok (.ldc 110, 2) := dk_18 110 (dk_at dksJ38_copyOf_2_0 1 rfl rfl)
theorem dJ38_copyOf_2_3 : decode cJ38_copyOf_2 3 = .ok (.if_acmp .ne 10, 3) := dk_166 0 10 (dk_at dksJ38_copyOf_2_0 3 rfl rfl)
theorem dJ38_copyOf_2_6 : decode cJ38_copyOf_2 6 = .ok (.iload_n 1, 1) := dk_27 (dk_at dksJ38_copyOf_2_0 6 rfl rfl)
theorem dJ38_copyOf_2_7 : decode cJ38_copyOf_2 7 = .ok (.anewarray 2, 3) := dk_189 0 2 (dk_at dksJ38_copyOf_2_0 7 rfl rfl)
theorem dJ38_copyOf_2_10 : decode cJ38_copyOf_2 10 = .ok (.goto 14, 3) := dk_167 0 14 (dk_at dksJ38_copyOf_2_0 10 rfl rfl)
theorem dJ38_copyOf_2_13 : decode cJ38_copyOf_2 13 = .ok (.aload_n 2, 1) := dk_44 (dk_at dksJ38_copyOf_2_0 13 rfl rfl)
theorem dJ38_copyOf_2_14 : decode cJ38_copyOf_2 14 = .ok (.invokevirtual 90, 3) := dk_182 0 90 (dk_at dksJ38_copyOf_2_0 14 rfl rfl)
theorem dJ38_copyOf_2_17 : decode cJ38_copyOf_2 17 = .ok (.iload_n 1, 1) := dk_27 (dk_at dksJ38_copyOf_2_0 17 rfl rfl)
theorem dJ38_copyOf_2_18 : decode cJ38_copyOf_2 18 = .ok (.invokestatic 95, 3) := dk_184 0 95 (dk_at dksJ38_copyOf_2_0 18 rfl rfl)
theorem dJ38_copyOf_2_21 : decode cJ38_copyOf_2 21 = .ok (.checkcast 110, 3) := dk_192 0 110 (dk_at dksJ38_copyOf_2_0 21 rfl rfl)
theorem dJ38_copyOf_2_24 : decode cJ38_copyOf_2 24 = .ok (.astore_n 3, 1) := dk_78 (dk_at dksJ38_copyOf_2_1 0 rfl rfl)
theorem dJ38_copyOf_2_25 : decode cJ38_copyOf_2 25 = .ok (.aload_n 0, 1) := dk_42 (dk_at dksJ38_copyOf_2_1 1 rfl rfl)
theorem dJ38_copyOf_2_26 : decode cJ38_copyOf_2 26 = .ok (.iconst 0, 1) := dk_3 (dk_at dksJ38_copyOf_2_1 2 rfl rfl)
theorem dJ38_copyOf_2_27 : decode cJ38_copyOf_2 27 = .ok (.aload_n 3, 1) := dk_45 (dk_at dksJ38_copyOf_2_1 3 rfl rfl)
theorem dJ38_copyOf_2_28 : decode cJ38_copyOf_2 28 = .ok (.iconst 0, 1) := dk_3 (dk_at dksJ38_copyOf_2_1 4 rfl rfl)
theorem dJ38_copyOf_2_29 : decode cJ38_copyOf_2 29 = .ok (.aload_n 0, 1) := dk_42 (dk_at dksJ38_copyOf_2_1 5 rfl rfl)
theorem dJ38_copyOf_2_30 : decode cJ38_copyOf_2 30 = .ok (.arraylength, 1) := dk_190 (dk_at dksJ38_copyOf_2_1 6 rfl rfl)
theorem dJ38_copyOf_2_31 : decode cJ38_copyOf_2 31 = .ok (.iload_n 1, 1) := dk_27 (dk_at dksJ38_copyOf_2_1 7 rfl rfl)
theorem dJ38_copyOf_2_32 : decode cJ38_copyOf_2 32 = .ok (.invokestatic 304, 3) := dk_184 1 48 (dk_at dksJ38_copyOf_2_1 8 rfl rfl)
theorem dJ38_copyOf_2_35 : decode cJ38_copyOf_2 35 = .ok (.invokestatic 150, 3) := dk_184 0 150 (dk_at dksJ38_copyOf_2_1 11 rfl rfl)
theorem dJ38_copyOf_2_38 : decode cJ38_copyOf_2 38 = .ok (.aload_n 3, 1) := dk_45 (dk_at dksJ38_copyOf_2_1 14 rfl rfl)
theorem dJ38_copyOf_2_39 : decode cJ38_copyOf_2 39 = .ok (.areturn, 1) := dk_176 (dk_at dksJ38_copyOf_2_1 15 rfl rfl)
abbrev cJ38_copyOf_3 : ByteArray := prog_45_method_121_code
def yJ38_copyOf_3 : MethodName := ⟨RJ38, "copyOf", "([BI)[B"⟩
def dkwJ38_copyOf_3_1 : List UInt8 := [27, 184, 1, 48, 184, 0, 150, 44, 176]
abbrev dktJ38_copyOf_3_1 : List UInt8 := dkwJ38_copyOf_3_1 ++ []
def dkwJ38_copyOf_3_0 : List UInt8 := [27, 42, 190, 160, 0, 11, 42, 182, 1, 54, 192, 1, 55, 176, 27, 188, 8, 77, 42, 3, 44, 3, 42, 190]
abbrev dktJ38_copyOf_3_0 : List UInt8 := dkwJ38_copyOf_3_0 ++ dktJ38_copyOf_3_1
theorem dksJ38_copyOf_3_0 : cJ38_copyOf_3.data.toList.drop 0 = dktJ38_copyOf_3_0 := by decide +kernel
theorem dksJ38_copyOf_3_1 : cJ38_copyOf_3.data.toList.drop 24 = dktJ38_copyOf_3_1 := dk_seg dksJ38_copyOf_3_0 24 rfl rfl
theorem dJ38_copyOf_3_0 : decode cJ38_copyOf_3 0 = .ok (.iload_n 1, 1) := dk_27 (dk_at dksJ38_copyOf_3_0 0 rfl rfl)
theorem dJ38_copyOf_3_1 : decode cJ38_copyOf_3 1 = .ok (.aload_n 0, 1) := dk_42 (dk_at dksJ38_copyOf_3_0 1 rfl rfl)
theorem dJ38_copyOf_3_2 : decode cJ38_copyOf_3 2 = .ok (.arraylength, 1) := dk_190 (dk_at dksJ38_copyOf_3_0 2 rfl rfl)
theorem dJ38_copyOf_3_3 : decode cJ38_copyOf_3 3 = .ok (.if_icmp .ne 11, 3) := dk_160 0 11 (dk_at dksJ38_copyOf_3_0 3 rfl rfl)
theorem dJ38_copyOf_3_6 : decode cJ38_copyOf_3 6 = .ok (.aload_n 0, 1) := dk_42 (dk_at dksJ38_copyOf_3_0 6 rfl rfl)
theorem dJ38_copyOf_3_7 : decode cJ38_copyOf_3 7 = .ok (.invokevirtual 310, 3) := dk_182 1 54 (dk_at dksJ38_copyOf_3_0 7 rfl rfl)
theorem dJ38_copyOf_3_10 : decode cJ38_copyOf_3 10 = .ok (.checkcast 311, 3) := dk_192 1 55 (dk_at dksJ38_copyOf_3_0 10 rfl rfl)
theorem dJ38_copyOf_3_13 : decode cJ38_copyOf_3 13 = .ok (.areturn, 1) := dk_176 (dk_at dksJ38_copyOf_3_0 13 rfl rfl)
theorem dJ38_copyOf_3_14 : decode cJ38_copyOf_3 14 = .ok (.iload_n 1, 1) := dk_27 (dk_at dksJ38_copyOf_3_0 14 rfl rfl)
theorem dJ38_copyOf_3_15 : decode cJ38_copyOf_3 15 = .ok (.newarray .byte, 2) := dk_188_8 (dk_at dksJ38_copyOf_3_0 15 rfl rfl)
theorem dJ38_copyOf_3_17 : decode cJ38_copyOf_3 17 = .ok (.astore_n 2, 1) := dk_77 (dk_at dksJ38_copyOf_3_0 17 rfl rfl)
theorem dJ38_copyOf_3_18 : decode cJ38_copyOf_3 18 = .ok (.aload_n 0, 1) := dk_42 (dk_at dksJ38_copyOf_3_0 18 rfl rfl)
theorem dJ38_copyOf_3_19 : decode cJ38_copyOf_3 19 = .ok (.iconst 0, 1) := dk_3 (dk_at dksJ38_copyOf_3_0 19 rfl rfl)
theorem dJ38_copyOf_3_20 : decode cJ38_copyOf_3 20 = .ok (.aload_n 2, 1) := dk_44 (dk_at dksJ38_copyOf_3_0 20 rfl rfl)
theorem dJ38_copyOf_3_21 : decode cJ38_copyOf_3 21 = .ok (.iconst 0, 1) := dk_3 (dk_at dksJ38_copyOf_3_0 21 rfl rfl)
theorem dJ38_copyOf_3_22 : decode cJ38_copyOf_3 22 = .ok (.aload_n 0, 1) := dk_42 (dk_at dksJ38_copyOf_3_0 22 rfl rfl)
theorem dJ38_copyOf_3_23 : decode cJ38_copyOf_3 23 = .ok (.arraylength, 1) := dk_190 (dk_at dksJ38_copyOf_3_0 23 rfl rfl)
theorem dJ38_copyOf_3_24 : decode cJ38_copyOf_3 24 = .ok (.iload_n 1, 1) := dk_27 (dk_at dksJ38_copyOf_3_1 0 rfl rfl)
theorem dJ38_copyOf_3_25 : decode cJ38_copyOf_3 25 = .ok (.invokestatic 304, 3) := dk_184 1 48 (dk_at dksJ38_copyOf_3_1 1 rfl rfl)
theorem dJ38_copyOf_3_28 : decode cJ38_copyOf_3 28 = .ok (.invokestatic 150, 3) := dk_184 0 150 (dk_at dksJ38_copyOf_3_1 4 rfl rfl)
theorem dJ38_copyOf_3_31 : decode cJ38_copyOf_3 31 = .ok (.aload_n 2, 1) := dk_44 (dk_at dksJ38_copyOf_3_1 7 rfl rfl)
theorem dJ38_copyOf_3_32 : decode cJ38_copyOf_3 32 = .ok (.areturn, 1) := dk_176 (dk_at dksJ38_copyOf_3_1 8 rfl rfl)
theorem q143 : (Jvm.Cond.initialized "java/util/Arrays") ∈ lw_all := lw_g (lw_at lw_m1 46 rfl) rfl
theorem q1534 : (Jvm.Cond.static ({ cls := "java/util/Arrays", name := "copyOf", desc := "([Ljava/lang/Object;I)[Ljava/lang/Object;" } : Jvm.MethodName)) ∈ lw_all := lw_g (lw_at lw_m6 237 rfl) rfl
theorem q1535 : (Jvm.Cond.code ({ cls := "java/util/Arrays", name := "copyOf", desc := "([Ljava/lang/Object;I)[Ljava/lang/Object;" } : Jvm.MethodName) prog_45_method_119_code (2 : Nat) (Option.some (Jvm.ClassFile.FieldType.array (Jvm.ClassFile.FieldType.object "java/lang/Object")))) ∈ lw_all := lw_g (lw_at lw_m6 238 rfl) rfl
theorem q1536 : (Jvm.Cond.methodLink "java/util/Arrays" (86 : Nat) ({ cls := "java/lang/Object", name := "getClass", desc := "()Ljava/lang/Class;" } : Jvm.MethodName)) ∈ lw_all := lw_g (lw_at lw_m6 239 rfl) rfl
theorem q1537 : (Jvm.Cond.methodLink "java/util/Arrays" (300 : Nat) ({ cls := "java/util/Arrays", name := "copyOf", desc := "([Ljava/lang/Object;ILjava/lang/Class;)[Ljava/lang/Object;" } : Jvm.MethodName)) ∈ lw_all := lw_g (lw_at lw_m7 0 rfl) rfl
theorem q1538 : (Jvm.Cond.static ({ cls := "java/util/Arrays", name := "copyOf", desc := "([Ljava/lang/Object;ILjava/lang/Class;)[Ljava/lang/Object;" } : Jvm.MethodName)) ∈ lw_all := lw_g (lw_at lw_m7 1 rfl) rfl
theorem q1539 : (Jvm.Cond.code ({ cls := "java/util/Arrays", name := "copyOf", desc := "([Ljava/lang/Object;ILjava/lang/Class;)[Ljava/lang/Object;" } : Jvm.MethodName) prog_45_method_120_code (4 : Nat) (Option.some (Jvm.ClassFile.FieldType.array (Jvm.ClassFile.FieldType.object "java/lang/Object")))) ∈ lw_all := lw_g (lw_at lw_m7 2 rfl) rfl
theorem q1540 : (Jvm.Cond.classLink "java/util/Arrays" (110 : Nat) "[Ljava/lang/Object;") ∈ lw_all := lw_g (lw_at lw_m7 3 rfl) rfl
theorem q1541 : (Jvm.Cond.classLink "java/util/Arrays" (2 : Nat) "java/lang/Object") ∈ lw_all := lw_g (lw_at lw_m7 4 rfl) rfl
theorem q1542 : (Jvm.Cond.methodLink "java/util/Arrays" (304 : Nat) ({ cls := "java/lang/Math", name := "min", desc := "(II)I" } : Jvm.MethodName)) ∈ lw_all := lw_g (lw_at lw_m7 5 rfl) rfl
theorem q1543 : (Jvm.Cond.methodLink "java/util/Arrays" (150 : Nat) ({ cls := "java/lang/System", name := "arraycopy", desc := "(Ljava/lang/Object;ILjava/lang/Object;II)V" } : Jvm.MethodName)) ∈ lw_all := lw_g (lw_at lw_m7 6 rfl) rfl
theorem q2565 : (Jvm.Cond.static ({ cls := "java/util/Arrays", name := "copyOf", desc := "([BI)[B" } : Jvm.MethodName)) ∈ lw_all := lw_g (lw_at lw_m11 68 rfl) rfl
theorem q2566 : (Jvm.Cond.code ({ cls := "java/util/Arrays", name := "copyOf", desc := "([BI)[B" } : Jvm.MethodName) prog_45_method_121_code (3 : Nat) (Option.some (Jvm.ClassFile.FieldType.array Jvm.ClassFile.FieldType.byte))) ∈ lw_all := lw_g (lw_at lw_m11 69 rfl) rfl
theorem q2567 : (Jvm.Cond.methodLink "java/util/Arrays" (310 : Nat) ({ cls := "[B", name := "clone", desc := "()Ljava/lang/Object;" } : Jvm.MethodName)) ∈ lw_all := lw_g (lw_at lw_m11 70 rfl) rfl
theorem q2571 : (Jvm.Cond.classLink "java/util/Arrays" (311 : Nat) "[B") ∈ lw_all := lw_g (lw_at lw_m11 74 rfl) rfl
theorem q2622 : (Jvm.Cond.static ({ cls := "java/util/Arrays", name := "fill", desc := "([BIIB)V" } : Jvm.MethodName)) ∈ lw_all := lw_g (lw_at lw_m11 125 rfl) rfl
theorem q2623 : (Jvm.Cond.code ({ cls := "java/util/Arrays", name := "fill", desc := "([BIIB)V" } : Jvm.MethodName) prog_45_method_110_code (5 : Nat) (Option.none : Option Jvm.ClassFile.FieldType)) ∈ lw_all := lw_g (lw_at lw_m11 126 rfl) rfl
theorem q2624 : (Jvm.Cond.methodLink "java/util/Arrays" (13 : Nat) ({ cls := "java/util/Arrays", name := "rangeCheck", desc := "(III)V" } : Jvm.MethodName)) ∈ lw_all := lw_g (lw_at lw_m11 127 rfl) rfl
theorem q2625 : (Jvm.Cond.static ({ cls := "java/util/Arrays", name := "rangeCheck", desc := "(III)V" } : Jvm.MethodName)) ∈ lw_all := lw_g (lw_at lw_m11 128 rfl) rfl
theorem q2626 : (Jvm.Cond.code ({ cls := "java/util/Arrays", name := "rangeCheck", desc := "(III)V" } : Jvm.MethodName) prog_45_method_30_code (3 : Nat) (Option.none : Option Jvm.ClassFile.FieldType)) ∈ lw_all := lw_g (lw_at lw_m11 129 rfl) rfl
/-! java/util/Objects -/
set_option maxRecDepth 100000
def RJ39 : String := "java/util/Objects"
abbrev cJ39_checkIndex : ByteArray := prog_67_method_17_code
def yJ39_checkIndex : MethodName := ⟨RJ39, "checkIndex", "(II)I"⟩
def dkwJ39_checkIndex_0 : List UInt8 := [26, 27, 1, 184, 0, 105, 172]
abbrev dktJ39_checkIndex_0 : List UInt8 := dkwJ39_checkIndex_0 ++ []
theorem dksJ39_checkIndex_0 : cJ39_checkIndex.data.toList.drop 0 = dktJ39_checkIndex_0 := by decide +kernel
theorem dJ39_checkIndex_0 : decode cJ39_checkIndex 0 = .ok (.iload_n 0, 1) := dk_26 (dk_at dksJ39_checkIndex_0 0 rfl rfl)
theorem dJ39_checkIndex_1 : decode cJ39_checkIndex 1 = .ok (.iload_n 1, 1) := dk_27 (dk_at dksJ39_checkIndex_0 1 rfl rfl)
theorem dJ39_checkIndex_2 : decode cJ39_checkIndex 2 = .ok (.aconst_null, 1) := dk_1 (dk_at dksJ39_checkIndex_0 2 rfl rfl)
theorem dJ39_checkIndex_3 : decode cJ39_checkIndex 3 = .ok (.invokestatic 105, 3) := dk_184 0 105 (dk_at dksJ39_checkIndex_0 3 rfl rfl)
theorem dJ39_checkIndex_6 : decode cJ39_checkIndex 6 = .ok (.ireturn, 1) := dk_172 (dk_at dksJ39_checkIndex_0 6 rfl rfl)
abbrev cJ39_requireNonNull : ByteArray := prog_67_method_10_code
def yJ39_requireNonNull : MethodName := ⟨RJ39, "requireNonNull", "(Ljava/lang/Object;)Ljava/lang/Object;"⟩
def dkwJ39_requireNonNull_0 : List UInt8 := [42, 199, 0, 11, 187, 0, 84, 89, 183, 0, 86, 191, 42, 176]
abbrev dktJ39_requireNonNull_0 : List UInt8 := dkwJ39_requireNonNull_0 ++ []
theorem dksJ39_requireNonNull_0 : cJ39_requireNonNull.data.toList.drop 0 = dktJ39_requireNonNull_0 := by decide +kernel
theorem dJ39_requireNonNull_0 : decode cJ39_requireNonNull 0 = .ok (.aload_n 0, 1) := dk_42 (dk_at dksJ39_requireNonNull_0 0 rfl rfl)
theorem dJ39_requireNonNull_1 : decode cJ39_requireNonNull 1 = .ok (.ifnonnull 11, 3) := dk_199 0 11 (dk_at dksJ39_requireNonNull_0 1 rfl rfl)
theorem dJ39_requireNonNull_4 : decode cJ39_requireNonNull 4 = .ok (.new 84, 3) := dk_187 0 84 (dk_at dksJ39_requireNonNull_0 4 rfl rfl)
theorem dJ39_requireNonNull_7 : decode cJ39_requireNonNull 7 = .ok (.dup, 1) := dk_89 (dk_at dksJ39_requireNonNull_0 7 rfl rfl)
theorem dJ39_requireNonNull_8 : decode cJ39_requireNonNull 8 = .ok (.invokespecial 86, 3) := dk_183 0 86 (dk_at dksJ39_requireNonNull_0 8 rfl rfl)
theorem dJ39_requireNonNull_11 : decode cJ39_requireNonNull 11 = .ok (.athrow, 1) := dk_191 (dk_at dksJ39_requireNonNull_0 11 rfl rfl)
theorem dJ39_requireNonNull_12 : decode cJ39_requireNonNull 12 = .ok (.aload_n 0, 1) := dk_42 (dk_at dksJ39_requireNonNull_0 12 rfl rfl)
theorem dJ39_requireNonNull_13 : decode cJ39_requireNonNull 13 = .ok (.areturn, 1) := dk_176 (dk_at dksJ39_requireNonNull_0 13 rfl rfl)
theorem q147 : (Jvm.Cond.initialized "java/util/Objects") ∈ lw_all := lw_g (lw_at lw_m1 50 rfl) rfl
theorem q1756 : (Jvm.Cond.static ({ cls := "java/util/Objects", name := "checkIndex", desc := "(II)I" } : Jvm.MethodName)) ∈ lw_all := lw_g (lw_at lw_m7 219 rfl) rfl
theorem q1757 : (Jvm.Cond.code ({ cls := "java/util/Objects", name := "checkIndex", desc := "(II)I" } : Jvm.MethodName) prog_67_method_17_code (2 : Nat) (Option.some Jvm.ClassFile.FieldType.int)) ∈ lw_all := lw_g (lw_at lw_m7 220 rfl) rfl
theorem q1758 : (Jvm.Cond.methodLink "java/util/Objects" (105 : Nat) ({ cls := "jdk/internal/util/Preconditions", name := "checkIndex", desc := "(IILjava/util/function/BiFunction;)I" } : Jvm.MethodName)) ∈ lw_all := lw_g (lw_at lw_m7 221 rfl) rfl
theorem q2020 : (Jvm.Cond.static ({ cls := "java/util/Objects", name := "requireNonNull", desc := "(Ljava/lang/Object;)Ljava/lang/Object;" } : Jvm.MethodName)) ∈ lw_all := lw_g (lw_at lw_m9 3 rfl) rfl
theorem q2021 : (Jvm.Cond.code ({ cls := "java/util/Objects", name := "requireNonNull", desc := "(Ljava/lang/Object;)Ljava/lang/Object;" } : Jvm.MethodName) prog_67_method_10_code (1 : Nat) (Option.some (Jvm.ClassFile.FieldType.object "java/lang/Object"))) ∈ lw_all := lw_g (lw_at lw_m9 4 rfl) rfl
/-! java/util/TreeMap$Entry -/
set_option maxRecDepth 100000
def RJ40 : String := "java/util/TreeMap$Entry"
def TJ40 : u_T := fun k => match k with
  | 0 => ("java/util/TreeMap$Entry", "key", "Ljava/lang/Object;", false)
  | 1 => ("java/util/TreeMap$Entry", "value", "Ljava/lang/Object;", false)
  | 2 => ("java/util/TreeMap$Entry", "left", "Ljava/util/TreeMap$Entry;", false)
  | 3 => ("java/util/TreeMap$Entry", "right", "Ljava/util/TreeMap$Entry;", false)
  | 4 => ("java/util/TreeMap$Entry", "parent", "Ljava/util/TreeMap$Entry;", false)
  | _ => ("java/util/TreeMap$Entry", "color", "Z", false)
def tyJ40 : Nat → FieldType := fun k => match k with
  | 0 => .object "java/lang/Object"
  | 1 => .object "java/lang/Object"
  | 2 => .object "java/util/TreeMap$Entry"
  | 3 => .object "java/util/TreeMap$Entry"
  | 4 => .object "java/util/TreeMap$Entry"
  | _ => .boolean
abbrev wsJ400 : List Cond := u_ws RJ40 TJ40 6
theorem nmJ40 : ∀ a, a < 6 → ∀ b, b < 6 → a ≠ b → (TJ40 a).2.1 ≠ (TJ40 b).2.1 := by decide +kernel
theorem tyJ40_ok : ∀ k, k < 6 → parseFieldDescriptor (TJ40 k).2.2.1 = some (tyJ40 k) := by decide +kernel
abbrev cJ40_init : ByteArray := prog_78_method_1_code
def yJ40_init : MethodName := ⟨RJ40, "<init>", "(Ljava/lang/Object;Ljava/lang/Object;Ljava/util/TreeMap$Entry;)V"⟩
def dkwJ40_init_1 : List UInt8 := [177]
abbrev dktJ40_init_1 : List UInt8 := dkwJ40_init_1 ++ []
def dkwJ40_init_0 : List UInt8 := [42, 183, 0, 3, 42, 4, 181, 0, 9, 42, 43, 181, 0, 15, 42, 44, 181, 0, 19, 42, 45, 181, 0, 22]
abbrev dktJ40_init_0 : List UInt8 := dkwJ40_init_0 ++ dktJ40_init_1
theorem dksJ40_init_0 : cJ40_init.data.toList.drop 0 = dktJ40_init_0 := by decide +kernel
theorem dksJ40_init_1 : cJ40_init.data.toList.drop 24 = dktJ40_init_1 := dk_seg dksJ40_init_0 24 rfl rfl
theorem dJ40_init_0 : decode cJ40_init 0 = .ok (.aload_n 0, 1) := dk_42 (dk_at dksJ40_init_0 0 rfl rfl)
theorem dJ40_init_1 : decode cJ40_init 1 = .ok (.invokespecial 3, 3) := dk_183 0 3 (dk_at dksJ40_init_0 1 rfl rfl)
theorem dJ40_init_4 : decode cJ40_init 4 = .ok (.aload_n 0, 1) := dk_42 (dk_at dksJ40_init_0 4 rfl rfl)
theorem dJ40_init_5 : decode cJ40_init 5 = .ok (.iconst 1, 1) := dk_4 (dk_at dksJ40_init_0 5 rfl rfl)
theorem dJ40_init_6 : decode cJ40_init 6 = .ok (.putfield 9, 3) := dk_181 0 9 (dk_at dksJ40_init_0 6 rfl rfl)
theorem dJ40_init_9 : decode cJ40_init 9 = .ok (.aload_n 0, 1) := dk_42 (dk_at dksJ40_init_0 9 rfl rfl)
theorem dJ40_init_10 : decode cJ40_init 10 = .ok (.aload_n 1, 1) := dk_43 (dk_at dksJ40_init_0 10 rfl rfl)
theorem dJ40_init_11 : decode cJ40_init 11 = .ok (.putfield 15, 3) := dk_181 0 15 (dk_at dksJ40_init_0 11 rfl rfl)
theorem dJ40_init_14 : decode cJ40_init 14 = .ok (.aload_n 0, 1) := dk_42 (dk_at dksJ40_init_0 14 rfl rfl)
theorem dJ40_init_15 : decode cJ40_init 15 = .ok (.aload_n 2, 1) := dk_44 (dk_at dksJ40_init_0 15 rfl rfl)
theorem dJ40_init_16 : decode cJ40_init 16 = .ok (.putfield 19, 3) := dk_181 0 19 (dk_at dksJ40_init_0 16 rfl rfl)
theorem dJ40_init_19 : decode cJ40_init 19 = .ok (.aload_n 0, 1) := dk_42 (dk_at dksJ40_init_0 19 rfl rfl)
theorem dJ40_init_20 : decode cJ40_init 20 = .ok (.aload_n 3, 1) := dk_45 (dk_at dksJ40_init_0 20 rfl rfl)
theorem dJ40_init_21 : decode cJ40_init 21 = .ok (.putfield 22, 3) := dk_181 0 22 (dk_at dksJ40_init_0 21 rfl rfl)
theorem dJ40_init_24 : decode cJ40_init 24 = .ok (.return_, 1) := dk_177 (dk_at dksJ40_init_1 0 rfl rfl)
theorem q149 : (Jvm.Cond.initialized "java/util/TreeMap$Entry") ∈ lw_all := lw_g (lw_at lw_m1 52 rfl) rfl
theorem q1133 : (Jvm.Cond.selects "java/util/TreeMap$Entry" ({ cls := "java/lang/Object", name := "getClass", desc := "()Ljava/lang/Class;" } : Jvm.MethodName) ({ cls := "java/lang/Object", name := "getClass", desc := "()Ljava/lang/Class;" } : Jvm.MethodName)) ∈ lw_all := lw_g (lw_at lw_m5 76 rfl) rfl
theorem q1990 : (Jvm.Cond.instantiable "java/util/TreeMap$Entry" (6 : Nat)) ∈ lw_all := lw_g (lw_at lw_m8 213 rfl) rfl
theorem q1992 : (Jvm.Cond.instanceMethod ({ cls := "java/util/TreeMap$Entry", name := "<init>", desc := "(Ljava/lang/Object;Ljava/lang/Object;Ljava/util/TreeMap$Entry;)V" } : Jvm.MethodName)) ∈ lw_all := lw_g (lw_at lw_m8 215 rfl) rfl
theorem q1993 : (Jvm.Cond.code ({ cls := "java/util/TreeMap$Entry", name := "<init>", desc := "(Ljava/lang/Object;Ljava/lang/Object;Ljava/util/TreeMap$Entry;)V" } : Jvm.MethodName) prog_78_method_1_code (4 : Nat) (Option.none : Option Jvm.ClassFile.FieldType)) ∈ lw_all := lw_g (lw_at lw_m8 216 rfl) rfl
theorem q1994 : (Jvm.Cond.methodLink "java/util/TreeMap$Entry" (3 : Nat) ({ cls := "java/lang/Object", name := "<init>", desc := "()V" } : Jvm.MethodName)) ∈ lw_all := lw_g (lw_at lw_m8 217 rfl) rfl
theorem q1995 : (Jvm.Cond.fieldLink "java/util/TreeMap$Entry" (15 : Nat) "java/util/TreeMap$Entry" "key" "Ljava/lang/Object;") ∈ lw_all := lw_g (lw_at lw_m8 218 rfl) rfl
theorem q1997 : (Jvm.Cond.fieldLink "java/util/TreeMap$Entry" (19 : Nat) "java/util/TreeMap$Entry" "value" "Ljava/lang/Object;") ∈ lw_all := lw_g (lw_at lw_m8 220 rfl) rfl
theorem q2002 : (Jvm.Cond.fieldLink "java/util/TreeMap$Entry" (22 : Nat) "java/util/TreeMap$Entry" "parent" "Ljava/util/TreeMap$Entry;") ∈ lw_all := lw_g (lw_at lw_m8 225 rfl) rfl
theorem q2004 : (Jvm.Cond.fieldLink "java/util/TreeMap$Entry" (9 : Nat) "java/util/TreeMap$Entry" "color" "Z") ∈ lw_all := lw_g (lw_at lw_m8 227 rfl) rfl
theorem q2006 : (Jvm.Cond.lays "java/util/TreeMap$Entry" "java/util/TreeMap$Entry" "key" "Ljava/lang/Object;") ∈ lw_all := lw_g (lw_at lw_m8 229 rfl) rfl
theorem q2007 : (Jvm.Cond.soleField "java/util/TreeMap$Entry" "key") ∈ lw_all := lw_g (lw_at lw_m8 230 rfl) rfl
theorem q2008 : (Jvm.Cond.lays "java/util/TreeMap$Entry" "java/util/TreeMap$Entry" "value" "Ljava/lang/Object;") ∈ lw_all := lw_g (lw_at lw_m8 231 rfl) rfl
theorem q2009 : (Jvm.Cond.soleField "java/util/TreeMap$Entry" "value") ∈ lw_all := lw_g (lw_at lw_m8 232 rfl) rfl
theorem q2010 : (Jvm.Cond.lays "java/util/TreeMap$Entry" "java/util/TreeMap$Entry" "left" "Ljava/util/TreeMap$Entry;") ∈ lw_all := lw_g (lw_at lw_m8 233 rfl) rfl
theorem q2011 : (Jvm.Cond.soleField "java/util/TreeMap$Entry" "left") ∈ lw_all := lw_g (lw_at lw_m8 234 rfl) rfl
theorem q2012 : (Jvm.Cond.lays "java/util/TreeMap$Entry" "java/util/TreeMap$Entry" "right" "Ljava/util/TreeMap$Entry;") ∈ lw_all := lw_g (lw_at lw_m8 235 rfl) rfl
theorem q2013 : (Jvm.Cond.soleField "java/util/TreeMap$Entry" "right") ∈ lw_all := lw_g (lw_at lw_m8 236 rfl) rfl
theorem q2014 : (Jvm.Cond.lays "java/util/TreeMap$Entry" "java/util/TreeMap$Entry" "parent" "Ljava/util/TreeMap$Entry;") ∈ lw_all := lw_g (lw_at lw_m8 237 rfl) rfl
theorem q2015 : (Jvm.Cond.soleField "java/util/TreeMap$Entry" "parent") ∈ lw_all := lw_g (lw_at lw_m8 238 rfl) rfl
theorem q2016 : (Jvm.Cond.lays "java/util/TreeMap$Entry" "java/util/TreeMap$Entry" "color" "Z") ∈ lw_all := lw_g (lw_at lw_m8 239 rfl) rfl
theorem q2017 : (Jvm.Cond.soleField "java/util/TreeMap$Entry" "color") ∈ lw_all := lw_g (lw_at lw_m9 0 rfl) rfl
theorem q2018 : (Jvm.Cond.superclass "java/util/TreeMap$Entry" "java/lang/Object") ∈ lw_all := lw_g (lw_at lw_m9 1 rfl) rfl
theorem q3196 : (Jvm.Cond.castable "java/util/TreeMap$Entry" "java/lang/Object") ∈ lw_tbl := lw_at lw_m13 219 rfl
theorem in_J40 : ∀ w ∈ wsJ400, w ∈ lw_all := lw_in wsJ400 [2006, 2008, 2010, 2012, 2014, 2016] (by decide +kernel) (by decide +kernel)
/-! java/util/TreeMap$Values -/
set_option maxRecDepth 100000
def RJ41 : String := "java/util/TreeMap$Values"
def TJ41 : u_T := fun k => match k with
  | _ => ("java/util/TreeMap$Values", "this$0", "Ljava/util/TreeMap;", true)
def tyJ41 : Nat → FieldType := fun k => match k with
  | _ => .object "java/util/TreeMap"
abbrev wsJ410 : List Cond := u_ws RJ41 TJ41 1
theorem nmJ41 : ∀ a, a < 1 → ∀ b, b < 1 → a ≠ b → (TJ41 a).2.1 ≠ (TJ41 b).2.1 := by decide +kernel
theorem tyJ41_ok : ∀ k, k < 1 → parseFieldDescriptor (TJ41 k).2.2.1 = some (tyJ41 k) := by decide +kernel
abbrev cJ41_iterator : ByteArray := prog_81_method_2_code
def yJ41_iterator : MethodName := ⟨RJ41, "iterator", "()Ljava/util/Iterator;"⟩
def dkwJ41_iterator_0 : List UInt8 := [187, 0, 13, 89, 42, 180, 0, 1, 42, 180, 0, 1, 182, 0, 15, 183, 0, 21, 176]
abbrev dktJ41_iterator_0 : List UInt8 := dkwJ41_iterator_0 ++ []
theorem dksJ41_iterator_0 : cJ41_iterator.data.toList.drop 0 = dktJ41_iterator_0 := by decide +kernel
theorem dJ41_iterator_0 : decode cJ41_iterator 0 = .ok (.new 13, 3) := dk_187 0 13 (dk_at dksJ41_iterator_0 0 rfl rfl)
theorem dJ41_iterator_3 : decode cJ41_iterator 3 = .ok (.dup, 1) := dk_89 (dk_at dksJ41_iterator_0 3 rfl rfl)
theorem dJ41_iterator_4 : decode cJ41_iterator 4 = .ok (.aload_n 0, 1) := dk_42 (dk_at dksJ41_iterator_0 4 rfl rfl)
theorem dJ41_iterator_5 : decode cJ41_iterator 5 = .ok (.getfield 1, 3) := dk_180 0 1 (dk_at dksJ41_iterator_0 5 rfl rfl)
theorem dJ41_iterator_8 : decode cJ41_iterator 8 = .ok (.aload_n 0, 1) := dk_42 (dk_at dksJ41_iterator_0 8 rfl rfl)
theorem dJ41_iterator_9 : decode cJ41_iterator 9 = .ok (.getfield 1, 3) := dk_180 0 1 (dk_at dksJ41_iterator_0 9 rfl rfl)
theorem dJ41_iterator_12 : decode cJ41_iterator 12 = .ok (.invokevirtual 15, 3) := dk_182 0 15 (dk_at dksJ41_iterator_0 12 rfl rfl)
theorem dJ41_iterator_15 : decode cJ41_iterator 15 = .ok (.invokespecial 21, 3) := dk_183 0 21 (dk_at dksJ41_iterator_0 15 rfl rfl)
theorem dJ41_iterator_18 : decode cJ41_iterator 18 = .ok (.areturn, 1) := dk_176 (dk_at dksJ41_iterator_0 18 rfl rfl)
abbrev cJ41_init : ByteArray := prog_81_method_1_code
def yJ41_init : MethodName := ⟨RJ41, "<init>", "(Ljava/util/TreeMap;)V"⟩
def dkwJ41_init_0 : List UInt8 := [42, 43, 181, 0, 1, 42, 183, 0, 7, 177]
abbrev dktJ41_init_0 : List UInt8 := dkwJ41_init_0 ++ []
theorem dksJ41_init_0 : cJ41_init.data.toList.drop 0 = dktJ41_init_0 := by decide +kernel
theorem dJ41_init_0 : decode cJ41_init 0 = .ok (.aload_n 0, 1) := dk_42 (dk_at dksJ41_init_0 0 rfl rfl)
theorem dJ41_init_1 : decode cJ41_init 1 = .ok (.aload_n 1, 1) := dk_43 (dk_at dksJ41_init_0 1 rfl rfl)
theorem dJ41_init_2 : decode cJ41_init 2 = .ok (.putfield 1, 3) := dk_181 0 1 (dk_at dksJ41_init_0 2 rfl rfl)
theorem dJ41_init_5 : decode cJ41_init 5 = .ok (.aload_n 0, 1) := dk_42 (dk_at dksJ41_init_0 5 rfl rfl)
theorem dJ41_init_6 : decode cJ41_init 6 = .ok (.invokespecial 7, 3) := dk_183 0 7 (dk_at dksJ41_init_0 6 rfl rfl)
theorem dJ41_init_9 : decode cJ41_init 9 = .ok (.return_, 1) := dk_177 (dk_at dksJ41_init_0 9 rfl rfl)
theorem q150 : (Jvm.Cond.initialized "java/util/TreeMap$Values") ∈ lw_all := lw_g (lw_at lw_m1 53 rfl) rfl
theorem q861 : (Jvm.Cond.castable "java/util/TreeMap$Values" "java/util/Collection") ∈ lw_tbl := lw_at lw_m4 44 rfl
theorem q862 : (Jvm.Cond.selects "java/util/TreeMap$Values" ({ cls := "java/util/Collection", name := "iterator", desc := "()Ljava/util/Iterator;" } : Jvm.MethodName) ({ cls := "java/util/TreeMap$Values", name := "iterator", desc := "()Ljava/util/Iterator;" } : Jvm.MethodName)) ∈ lw_all := lw_g (lw_at lw_m4 45 rfl) rfl
theorem q863 : (Jvm.Cond.unhidden "java/util/TreeMap$Values" "iterator" "()Ljava/util/Iterator;") ∈ lw_tbl := lw_at lw_m4 46 rfl
theorem q864 : (Jvm.Cond.instanceMethod ({ cls := "java/util/TreeMap$Values", name := "iterator", desc := "()Ljava/util/Iterator;" } : Jvm.MethodName)) ∈ lw_all := lw_g (lw_at lw_m4 47 rfl) rfl
theorem q865 : (Jvm.Cond.publicMethod ({ cls := "java/util/TreeMap$Values", name := "iterator", desc := "()Ljava/util/Iterator;" } : Jvm.MethodName)) ∈ lw_tbl := lw_at lw_m4 48 rfl
theorem q866 : (Jvm.Cond.code ({ cls := "java/util/TreeMap$Values", name := "iterator", desc := "()Ljava/util/Iterator;" } : Jvm.MethodName) prog_81_method_2_code (1 : Nat) (Option.some (Jvm.ClassFile.FieldType.object "java/util/Iterator"))) ∈ lw_all := lw_g (lw_at lw_m4 49 rfl) rfl
theorem q867 : (Jvm.Cond.classLink "java/util/TreeMap$Values" (13 : Nat) "java/util/TreeMap$ValueIterator") ∈ lw_all := lw_g (lw_at lw_m4 50 rfl) rfl
theorem q869 : (Jvm.Cond.methodLink "java/util/TreeMap$Values" (15 : Nat) ({ cls := "java/util/TreeMap", name := "getFirstEntry", desc := "()Ljava/util/TreeMap$Entry;" } : Jvm.MethodName)) ∈ lw_all := lw_g (lw_at lw_m4 52 rfl) rfl
theorem q873 : (Jvm.Cond.methodLink "java/util/TreeMap$Values" (21 : Nat) ({ cls := "java/util/TreeMap$ValueIterator", name := "<init>", desc := "(Ljava/util/TreeMap;Ljava/util/TreeMap$Entry;)V" } : Jvm.MethodName)) ∈ lw_all := lw_g (lw_at lw_m4 56 rfl) rfl
theorem q1135 : (Jvm.Cond.selects "java/util/TreeMap$Values" ({ cls := "java/lang/Object", name := "getClass", desc := "()Ljava/lang/Class;" } : Jvm.MethodName) ({ cls := "java/lang/Object", name := "getClass", desc := "()Ljava/lang/Class;" } : Jvm.MethodName)) ∈ lw_all := lw_g (lw_at lw_m5 78 rfl) rfl
theorem q1854 : (Jvm.Cond.selects "java/util/TreeMap$Values" ({ cls := "java/util/Collection", name := "contains", desc := "(Ljava/lang/Object;)Z" } : Jvm.MethodName) ({ cls := "java/util/TreeMap$Values", name := "contains", desc := "(Ljava/lang/Object;)Z" } : Jvm.MethodName)) ∈ lw_all := lw_g (lw_at lw_m8 77 rfl) rfl
theorem q1855 : (Jvm.Cond.unhidden "java/util/TreeMap$Values" "contains" "(Ljava/lang/Object;)Z") ∈ lw_tbl := lw_at lw_m8 78 rfl
theorem q1856 : (Jvm.Cond.instanceMethod ({ cls := "java/util/TreeMap$Values", name := "contains", desc := "(Ljava/lang/Object;)Z" } : Jvm.MethodName)) ∈ lw_all := lw_g (lw_at lw_m8 79 rfl) rfl
theorem q1857 : (Jvm.Cond.publicMethod ({ cls := "java/util/TreeMap$Values", name := "contains", desc := "(Ljava/lang/Object;)Z" } : Jvm.MethodName)) ∈ lw_tbl := lw_at lw_m8 80 rfl
theorem q1858 : (Jvm.Cond.code ({ cls := "java/util/TreeMap$Values", name := "contains", desc := "(Ljava/lang/Object;)Z" } : Jvm.MethodName) prog_81_method_4_code (2 : Nat) (Option.some Jvm.ClassFile.FieldType.boolean)) ∈ lw_all := lw_g (lw_at lw_m8 81 rfl) rfl
theorem q1859 : (Jvm.Cond.methodLink "java/util/TreeMap$Values" (28 : Nat) ({ cls := "java/util/TreeMap", name := "containsValue", desc := "(Ljava/lang/Object;)Z" } : Jvm.MethodName)) ∈ lw_all := lw_g (lw_at lw_m8 82 rfl) rfl
theorem q2059 : (Jvm.Cond.instantiable "java/util/TreeMap$Values" (1 : Nat)) ∈ lw_all := lw_g (lw_at lw_m9 42 rfl) rfl
theorem q2061 : (Jvm.Cond.instanceMethod ({ cls := "java/util/TreeMap$Values", name := "<init>", desc := "(Ljava/util/TreeMap;)V" } : Jvm.MethodName)) ∈ lw_all := lw_g (lw_at lw_m9 44 rfl) rfl
theorem q2062 : (Jvm.Cond.code ({ cls := "java/util/TreeMap$Values", name := "<init>", desc := "(Ljava/util/TreeMap;)V" } : Jvm.MethodName) prog_81_method_1_code (2 : Nat) (Option.none : Option Jvm.ClassFile.FieldType)) ∈ lw_all := lw_g (lw_at lw_m9 45 rfl) rfl
theorem q2063 : (Jvm.Cond.methodLink "java/util/TreeMap$Values" (7 : Nat) ({ cls := "java/util/AbstractCollection", name := "<init>", desc := "()V" } : Jvm.MethodName)) ∈ lw_all := lw_g (lw_at lw_m9 46 rfl) rfl
theorem q2064 : (Jvm.Cond.fieldLink "java/util/TreeMap$Values" (1 : Nat) "java/util/TreeMap$Values" "this$0" "Ljava/util/TreeMap;") ∈ lw_all := lw_g (lw_at lw_m9 47 rfl) rfl
theorem q2065 : (Jvm.Cond.laysFinal "java/util/TreeMap$Values" "java/util/TreeMap$Values" "this$0" "Ljava/util/TreeMap;") ∈ lw_all := lw_g (lw_at lw_m9 48 rfl) rfl
theorem q2066 : (Jvm.Cond.soleField "java/util/TreeMap$Values" "this$0") ∈ lw_all := lw_g (lw_at lw_m9 49 rfl) rfl
theorem q2067 : (Jvm.Cond.superclass "java/util/TreeMap$Values" "java/util/AbstractCollection") ∈ lw_all := lw_g (lw_at lw_m9 50 rfl) rfl
theorem q3197 : (Jvm.Cond.castable "java/util/TreeMap$Values" "java/lang/Object") ∈ lw_tbl := lw_at lw_m13 220 rfl
theorem in_J41 : ∀ w ∈ wsJ410, w ∈ lw_all := lw_in wsJ410 [2065] (by decide +kernel) (by decide +kernel)
/-! java/util/AbstractQueue -/
set_option maxRecDepth 100000
def RJ42 : String := "java/util/AbstractQueue"
abbrev cJ42_init : ByteArray := prog_39_method_1_code
def yJ42_init : MethodName := ⟨RJ42, "<init>", "()V"⟩
theorem dJ42_init_0 : decode cJ42_init 0 = .ok (.aload_n 0, 1) := by decide +kernel
theorem dJ42_init_1 : decode cJ42_init 1 = .ok (.invokespecial 1, 3) := by decide +kernel
theorem dJ42_init_4 : decode cJ42_init 4 = .ok (.return_, 1) := by decide +kernel
theorem q153 : (Jvm.Cond.initialized "java/util/AbstractQueue") ∈ lw_all := lw_g (lw_at lw_m1 56 rfl) rfl
theorem q2275 : (Jvm.Cond.instanceMethod ({ cls := "java/util/AbstractQueue", name := "<init>", desc := "()V" } : Jvm.MethodName)) ∈ lw_all := lw_g (lw_at lw_m10 18 rfl) rfl
theorem q2276 : (Jvm.Cond.code ({ cls := "java/util/AbstractQueue", name := "<init>", desc := "()V" } : Jvm.MethodName) prog_39_method_1_code (1 : Nat) (Option.none : Option Jvm.ClassFile.FieldType)) ∈ lw_all := lw_g (lw_at lw_m10 19 rfl) rfl
theorem q2277 : (Jvm.Cond.methodLink "java/util/AbstractQueue" (1 : Nat) ({ cls := "java/util/AbstractCollection", name := "<init>", desc := "()V" } : Jvm.MethodName)) ∈ lw_all := lw_g (lw_at lw_m10 20 rfl) rfl
/-! java/util/PriorityQueue -/
set_option maxRecDepth 100000
def RJ43 : String := "java/util/PriorityQueue"
def TJ43 : u_T := fun k => match k with
  | 0 => ("java/util/PriorityQueue", "queue", "[Ljava/lang/Object;", false)
  | 1 => ("java/util/PriorityQueue", "size", "I", false)
  | 2 => ("java/util/PriorityQueue", "comparator", "Ljava/util/Comparator;", true)
  | _ => ("java/util/PriorityQueue", "modCount", "I", false)
def tyJ43 : Nat → FieldType := fun k => match k with
  | 0 => .array (.object "java/lang/Object")
  | 1 => .int
  | 2 => .object "java/util/Comparator"
  | _ => .int
abbrev wsJ430 : List Cond := u_ws RJ43 TJ43 4
theorem nmJ43 : ∀ a, a < 4 → ∀ b, b < 4 → a ≠ b → (TJ43 a).2.1 ≠ (TJ43 b).2.1 := by decide +kernel
theorem tyJ43_ok : ∀ k, k < 4 → parseFieldDescriptor (TJ43 k).2.2.1 = some (tyJ43 k) := by decide +kernel
abbrev cJ43_init : ByteArray := prog_68_method_4_code
def yJ43_init : MethodName := ⟨RJ43, "<init>", "(ILjava/util/Comparator;)V"⟩
def dkwJ43_init_1 : List UInt8 := [181, 0, 17, 42, 44, 181, 0, 21, 177]
abbrev dktJ43_init_1 : List UInt8 := dkwJ43_init_1 ++ []
def dkwJ43_init_0 : List UInt8 := [42, 183, 0, 7, 27, 4, 162, 0, 11, 187, 0, 12, 89, 183, 0, 14, 191, 42, 27, 189, 0, 15]
abbrev dktJ43_init_0 : List UInt8 := dkwJ43_init_0 ++ dktJ43_init_1
theorem dksJ43_init_0 : cJ43_init.data.toList.drop 0 = dktJ43_init_0 := by decide +kernel
theorem dksJ43_init_1 : cJ43_init.data.toList.drop 22 = dktJ43_init_1 := dk_seg dksJ43_init_0 22 rfl rfl
theorem dJ43_init_0 : decode cJ43_init 0 = .ok (.aload_n 0, 1) := dk_42 (dk_at dksJ43_init_0 0 rfl rfl)
theorem dJ43_init_1 : decode cJ43_init 1 = .ok (.invokespecial 7, 3) := dk_183 0 7 (dk_at dksJ43_init_0 1 rfl rfl)
theorem dJ43_init_4 : decode cJ43_init 4 = .ok (.iload_n 1, 1) := dk_27 (dk_at dksJ43_init_0 4 rfl rfl)
theorem dJ43_init_5 : decode cJ43_init 5 = .ok (.iconst 1, 1) := dk_4 (dk_at dksJ43_init_0 5 rfl rfl)
theorem dJ43_init_6 : decode cJ43_init 6 = .ok (.if_icmp .ge 11, 3) := dk_162 0 11 (dk_at dksJ43_init_0 6 rfl rfl)
theorem dJ43_init_9 : decode cJ43_init 9 = .ok (.new 12, 3) := dk_187 0 12 (dk_at dksJ43_init_0 9 rfl rfl)
theorem dJ43_init_12 : decode cJ43_init 12 = .ok (.dup, 1) := dk_89 (dk_at dksJ43_init_0 12 rfl rfl)
theorem dJ43_init_13 : decode cJ43_init 13 = .ok (.invokespecial 14, 3) := dk_183 0 14 (dk_at dksJ43_init_0 13 rfl rfl)
theorem dJ43_init_16 : decode cJ43_init 16 = .ok (.athrow, 1) := dk_191 (dk_at dksJ43_init_0 16 rfl rfl)
theorem dJ43_init_17 : decode cJ43_init 17 = .ok (.aload_n 0, 1) := dk_42 (dk_at dksJ43_init_0 17 rfl rfl)
theorem dJ43_init_18 : decode cJ43_init 18 = .ok (.iload_n 1, 1) := dk_27 (dk_at dksJ43_init_0 18 rfl rfl)
theorem dJ43_init_19 : decode cJ43_init 19 = .ok (.anewarray 15, 3) := dk_189 0 15 (dk_at dksJ43_init_0 19 rfl rfl)
theorem dJ43_init_22 : decode cJ43_init 22 = .ok (.putfield 17, 3) := dk_181 0 17 (dk_at dksJ43_init_1 0 rfl rfl)
theorem dJ43_init_25 : decode cJ43_init 25 = .ok (.aload_n 0, 1) := dk_42 (dk_at dksJ43_init_1 3 rfl rfl)
theorem dJ43_init_26 : decode cJ43_init 26 = .ok (.aload_n 2, 1) := dk_44 (dk_at dksJ43_init_1 4 rfl rfl)
theorem dJ43_init_27 : decode cJ43_init 27 = .ok (.putfield 21, 3) := dk_181 0 21 (dk_at dksJ43_init_1 5 rfl rfl)
theorem dJ43_init_30 : decode cJ43_init 30 = .ok (.return_, 1) := dk_177 (dk_at dksJ43_init_1 8 rfl rfl)
abbrev cJ43_add : ByteArray := prog_68_method_13_code
def yJ43_add : MethodName := ⟨RJ43, "add", "(Ljava/lang/Object;)Z"⟩
def dkwJ43_add_0 : List UInt8 := [42, 43, 182, 0, 89, 172]
abbrev dktJ43_add_0 : List UInt8 := dkwJ43_add_0 ++ []
theorem dksJ43_add_0 : cJ43_add.data.toList.drop 0 = dktJ43_add_0 := by decide +kernel
theorem dJ43_add_0 : decode cJ43_add 0 = .ok (.aload_n 0, 1) := dk_42 (dk_at dksJ43_add_0 0 rfl rfl)
theorem dJ43_add_1 : decode cJ43_add 1 = .ok (.aload_n 1, 1) := dk_43 (dk_at dksJ43_add_0 1 rfl rfl)
theorem dJ43_add_2 : decode cJ43_add 2 = .ok (.invokevirtual 89, 3) := dk_182 0 89 (dk_at dksJ43_add_0 2 rfl rfl)
theorem dJ43_add_5 : decode cJ43_add 5 = .ok (.ireturn, 1) := dk_172 (dk_at dksJ43_add_0 5 rfl rfl)
abbrev cJ43_offer : ByteArray := prog_68_method_14_code
def yJ43_offer : MethodName := ⟨RJ43, "offer", "(Ljava/lang/Object;)Z"⟩
def dkwJ43_offer_2 : List UInt8 := [182, 0, 100, 42, 28, 4, 96, 181, 0, 58, 4, 172]
abbrev dktJ43_offer_2 : List UInt8 := dkwJ43_offer_2 ++ []
def dkwJ43_offer_1 : List UInt8 := [180, 0, 58, 61, 28, 42, 180, 0, 17, 190, 161, 0, 10, 42, 28, 4, 96, 182, 0, 96, 42, 28, 43]
abbrev dktJ43_offer_1 : List UInt8 := dkwJ43_offer_1 ++ dktJ43_offer_2
def dkwJ43_offer_0 : List UInt8 := [43, 199, 0, 11, 187, 0, 74, 89, 183, 0, 76, 191, 42, 89, 180, 0, 93, 4, 96, 181, 0, 93, 42]
abbrev dktJ43_offer_0 : List UInt8 := dkwJ43_offer_0 ++ dktJ43_offer_1
theorem dksJ43_offer_0 : cJ43_offer.data.toList.drop 0 = dktJ43_offer_0 := by decide +kernel
theorem dksJ43_offer_1 : cJ43_offer.data.toList.drop 23 = dktJ43_offer_1 := dk_seg dksJ43_offer_0 23 rfl rfl
theorem dksJ43_offer_2 : cJ43_offer.data.toList.drop 46 = dktJ43_offer_2 := dk_seg dksJ43_offer_1 23 rfl rfl
theorem dJ43_offer_0 : decode cJ43_offer 0 = .ok (.aload_n 1, 1) := dk_43 (dk_at dksJ43_offer_0 0 rfl rfl)
theorem dJ43_offer_1 : decode cJ43_offer 1 = .ok (.ifnonnull 11, 3) := dk_199 0 11 (dk_at dksJ43_offer_0 1 rfl rfl)
theorem dJ43_offer_4 : decode cJ43_offer 4 = .ok (.new 74, 3) := dk_187 0 74 (dk_at dksJ43_offer_0 4 rfl rfl)
theorem dJ43_offer_7 : decode cJ43_offer 7 = .ok (.dup, 1) := dk_89 (dk_at dksJ43_offer_0 7 rfl rfl)
theorem dJ43_offer_8 : decode cJ43_offer 8 = .ok (.invokespecial 76, 3) := dk_183 0 76 (dk_at dksJ43_offer_0 8 rfl rfl)
theorem dJ43_offer_11 : decode cJ43_offer 11 = .ok (.athrow, 1) := dk_191 (dk_at dksJ43_offer_0 11 rfl rfl)
theorem dJ43_offer_12 : decode cJ43_offer 12 = .ok (.aload_n 0, 1) := dk_42 (dk_at dksJ43_offer_0 12 rfl rfl)
theorem dJ43_offer_13 : decode cJ43_offer 13 = .ok (.dup, 1) := dk_89 (dk_at dksJ43_offer_0 13 rfl rfl)
theorem dJ43_offer_14 : decode cJ43_offer 14 = .ok (.getfield 93, 3) := dk_180 0 93 (dk_at dksJ43_offer_0 14 rfl rfl)
theorem dJ43_offer_17 : decode cJ43_offer 17 = .ok (.iconst 1, 1) := dk_4 (dk_at dksJ43_offer_0 17 rfl rfl)
theorem dJ43_offer_18 : decode cJ43_offer 18 = .ok (.iadd, 1) := dk_96 (dk_at dksJ43_offer_0 18 rfl rfl)
theorem dJ43_offer_19 : decode cJ43_offer 19 = .ok (.putfield 93, 3) := dk_181 0 93 (dk_at dksJ43_offer_0 19 rfl rfl)
theorem dJ43_offer_22 : decode cJ43_offer 22 = .ok (.aload_n 0, 1) := dk_42 (dk_at dksJ43_offer_0 22 rfl rfl)
theorem dJ43_offer_23 : decode cJ43_offer 23 = .ok (.getfield 58, 3) := dk_180 0 58 (dk_at dksJ43_offer_1 0 rfl rfl)
theorem dJ43_offer_26 : decode cJ43_offer 26 = .ok (.istore_n 2, 1) := dk_61 (dk_at dksJ43_offer_1 3 rfl rfl)
theorem dJ43_offer_27 : decode cJ43_offer 27 = .ok (.iload_n 2, 1) := dk_28 (dk_at dksJ43_offer_1 4 rfl rfl)
theorem dJ43_offer_28 : decode cJ43_offer 28 = .ok (.aload_n 0, 1) := dk_42 (dk_at dksJ43_offer_1 5 rfl rfl)
theorem dJ43_offer_29 : decode cJ43_offer 29 = .ok (.getfield 17, 3) := dk_180 0 17 (dk_at dksJ43_offer_1 6 rfl rfl)
theorem dJ43_offer_32 : decode cJ43_offer 32 = .ok (.arraylength, 1) := dk_190 (dk_at dksJ43_offer_1 9 rfl rfl)
theorem dJ43_offer_33 : decode cJ43_offer 33 = .ok (.if_icmp .lt 10, 3) := dk_161 0 10 (dk_at dksJ43_offer_1 10 rfl rfl)
theorem dJ43_offer_36 : decode cJ43_offer 36 = .ok (.aload_n 0, 1) := dk_42 (dk_at dksJ43_offer_1 13 rfl rfl)
theorem dJ43_offer_37 : decode cJ43_offer 37 = .ok (.iload_n 2, 1) := dk_28 (dk_at dksJ43_offer_1 14 rfl rfl)
theorem dJ43_offer_38 : decode cJ43_offer 38 = .ok (.iconst 1, 1) := dk_4 (dk_at dksJ43_offer_1 15 rfl rfl)
theorem dJ43_offer_39 : decode cJ43_offer 39 = .ok (.iadd, 1) := dk_96 (dk_at dksJ43_offer_1 16 rfl rfl)
theorem dJ43_offer_40 : decode cJ43_offer 40 = .ok (.invokevirtual 96, 3) := dk_182 0 96 (dk_at dksJ43_offer_1 17 rfl rfl)
theorem dJ43_offer_43 : decode cJ43_offer 43 = .ok (.aload_n 0, 1) := dk_42 (dk_at dksJ43_offer_1 20 rfl rfl)
theorem dJ43_offer_44 : decode cJ43_offer 44 = .ok (.iload_n 2, 1) := dk_28 (dk_at dksJ43_offer_1 21 rfl rfl)
theorem dJ43_offer_45 : decode cJ43_offer 45 = .ok (.aload_n 1, 1) := dk_43 (dk_at dksJ43_offer_1 22 rfl rfl)
theorem dJ43_offer_46 : decode cJ43_offer 46 = .ok (.invokevirtual 100, 3) := dk_182 0 100 (dk_at dksJ43_offer_2 0 rfl rfl)
theorem dJ43_offer_49 : decode cJ43_offer 49 = .ok (.aload_n 0, 1) := dk_42 (dk_at dksJ43_offer_2 3 rfl rfl)
theorem dJ43_offer_50 : decode cJ43_offer 50 = .ok (.iload_n 2, 1) := dk_28 (dk_at dksJ43_offer_2 4 rfl rfl)
theorem dJ43_offer_51 : decode cJ43_offer 51 = .ok (.iconst 1, 1) := dk_4 (dk_at dksJ43_offer_2 5 rfl rfl)
theorem dJ43_offer_52 : decode cJ43_offer 52 = .ok (.iadd, 1) := dk_96 (dk_at dksJ43_offer_2 6 rfl rfl)
theorem dJ43_offer_53 : decode cJ43_offer 53 = .ok (.putfield 58, 3) := dk_181 0 58 (dk_at dksJ43_offer_2 7 rfl rfl)
theorem dJ43_offer_56 : decode cJ43_offer 56 = .ok (.iconst 1, 1) := dk_4 (dk_at dksJ43_offer_2 10 rfl rfl)
theorem dJ43_offer_57 : decode cJ43_offer 57 = .ok (.ireturn, 1) := dk_172 (dk_at dksJ43_offer_2 11 rfl rfl)
abbrev cJ43_grow : ByteArray := prog_68_method_12_code
def yJ43_grow : MethodName := ⟨RJ43, "grow", "(I)V"⟩
def dkwJ43_grow_1 : List UInt8 := [122, 184, 0, 80, 62, 42, 42, 180, 0, 17, 29, 184, 0, 86, 181, 0, 17, 177]
abbrev dktJ43_grow_1 : List UInt8 := dkwJ43_grow_1 ++ []
def dkwJ43_grow_0 : List UInt8 := [42, 180, 0, 17, 190, 61, 28, 27, 28, 100, 28, 16, 64, 162, 0, 9, 28, 5, 96, 167, 0, 6, 28, 4]
abbrev dktJ43_grow_0 : List UInt8 := dkwJ43_grow_0 ++ dktJ43_grow_1
theorem dksJ43_grow_0 : cJ43_grow.data.toList.drop 0 = dktJ43_grow_0 := by decide +kernel
theorem dksJ43_grow_1 : cJ43_grow.data.toList.drop 24 = dktJ43_grow_1 := dk_seg dksJ43_grow_0 24 rfl rfl
theorem dJ43_grow_0 : decode cJ43_grow 0 = .ok (.aload_n 0, 1) := dk_42 (dk_at dksJ43_grow_0 0 rfl rfl)
theorem dJ43_grow_1 : decode cJ43_grow 1 = .ok (.getfield 17, 3) := dk_180 0 17 (dk_at dksJ43_grow_0 1 rfl rfl)
theorem dJ43_grow_4 : decode cJ43_grow 4 = .ok (.arraylength, 1) := dk_190 (dk_at dksJ43_grow_0 4 rfl rfl)
theorem dJ43_grow_5 : decode cJ43_grow 5 = .ok (.istore_n 2, 1) := dk_61 (dk_at dksJ43_grow_0 5 rfl rfl)
theorem dJ43_grow_6 : decode cJ43_grow 6 = .ok (.iload_n 2, 1) := dk_28 (dk_at dksJ43_grow_0 6 rfl rfl)
theorem dJ43_grow_7 : decode cJ43_grow 7 = .ok (.iload_n 1, 1) := dk_27 (dk_at dksJ43_grow_0 7 rfl rfl)
theorem dJ43_grow_8 : decode cJ43_grow 8 = .ok (.iload_n 2, 1) := dk_28 (dk_at dksJ43_grow_0 8 rfl rfl)
theorem dJ43_grow_9 : decode cJ43_grow 9 = .ok (.isub, 1) := dk_100 (dk_at dksJ43_grow_0 9 rfl rfl)
theorem dJ43_grow_10 : decode cJ43_grow 10 = .ok (.iload_n 2, 1) := dk_28 (dk_at dksJ43_grow_0 10 rfl rfl)
theorem dJ43_grow_11 : decode cJ43_grow 11 = .ok (.bipush 64, 2) := dk_16 64 (dk_at dksJ43_grow_0 11 rfl rfl)
theorem dJ43_grow_13 : decode cJ43_grow 13 = .ok (.if_icmp .ge 9, 3) := dk_162 0 9 (dk_at dksJ43_grow_0 13 rfl rfl)
theorem dJ43_grow_16 : decode cJ43_grow 16 = .ok (.iload_n 2, 1) := dk_28 (dk_at dksJ43_grow_0 16 rfl rfl)
theorem dJ43_grow_17 : decode cJ43_grow 17 = .ok (.iconst 2, 1) := dk_5 (dk_at dksJ43_grow_0 17 rfl rfl)
theorem dJ43_grow_18 : decode cJ43_grow 18 = .ok (.iadd, 1) := dk_96 (dk_at dksJ43_grow_0 18 rfl rfl)
theorem dJ43_grow_19 : decode cJ43_grow 19 = .ok (.goto 6, 3) := dk_167 0 6 (dk_at dksJ43_grow_0 19 rfl rfl)
theorem dJ43_grow_22 : decode cJ43_grow 22 = .ok (.iload_n 2, 1) := dk_28 (dk_at dksJ43_grow_0 22 rfl rfl)
theorem dJ43_grow_23 : decode cJ43_grow 23 = .ok (.iconst 1, 1) := dk_4 (dk_at dksJ43_grow_0 23 rfl rfl)
theorem dJ43_grow_24 : decode cJ43_grow 24 = .ok (.ishr, 1) := dk_122 (dk_at dksJ43_grow_1 0 rfl rfl)
theorem dJ43_grow_25 : decode cJ43_grow 25 = .ok (.invokestatic 80, 3) := dk_184 0 80 (dk_at dksJ43_grow_1 1 rfl rfl)
theorem dJ43_grow_28 : decode cJ43_grow 28 = .ok (.istore_n 3, 1) := dk_62 (dk_at dksJ43_grow_1 4 rfl rfl)
theorem dJ43_grow_29 : decode cJ43_grow 29 = .ok (.aload_n 0, 1) := dk_42 (dk_at dksJ43_grow_1 5 rfl rfl)
theorem dJ43_grow_30 : decode cJ43_grow 30 = .ok (.aload_n 0, 1) := dk_42 (dk_at dksJ43_grow_1 6 rfl rfl)
theorem dJ43_grow_31 : decode cJ43_grow 31 = .ok (.getfield 17, 3) := dk_180 0 17 (dk_at dksJ43_grow_1 7 rfl rfl)
theorem dJ43_grow_34 : decode cJ43_grow 34 = .ok (.iload_n 3, 1) := dk_29 (dk_at dksJ43_grow_1 10 rfl rfl)
theorem dJ43_grow_35 : decode cJ43_grow 35 = .ok (.invokestatic 86, 3) := dk_184 0 86 (dk_at dksJ43_grow_1 11 rfl rfl)
theorem dJ43_grow_38 : decode cJ43_grow 38 = .ok (.putfield 17, 3) := dk_181 0 17 (dk_at dksJ43_grow_1 14 rfl rfl)
theorem dJ43_grow_41 : decode cJ43_grow 41 = .ok (.return_, 1) := dk_177 (dk_at dksJ43_grow_1 17 rfl rfl)
abbrev cJ43_siftUp : ByteArray := prog_68_method_27_code
def yJ43_siftUp : MethodName := ⟨RJ43, "siftUp", "(ILjava/lang/Object;)V"⟩
def dkwJ43_siftUp_1 : List UInt8 := [44, 42, 180, 0, 17, 184, 0, 140, 177]
abbrev dktJ43_siftUp_1 : List UInt8 := dkwJ43_siftUp_1 ++ []
def dkwJ43_siftUp_0 : List UInt8 := [42, 180, 0, 21, 198, 0, 19, 27, 44, 42, 180, 0, 17, 42, 180, 0, 21, 184, 0, 136, 167, 0, 12, 27]
abbrev dktJ43_siftUp_0 : List UInt8 := dkwJ43_siftUp_0 ++ dktJ43_siftUp_1
theorem dksJ43_siftUp_0 : cJ43_siftUp.data.toList.drop 0 = dktJ43_siftUp_0 := by decide +kernel
theorem dksJ43_siftUp_1 : cJ43_siftUp.data.toList.drop 24 = dktJ43_siftUp_1 := dk_seg dksJ43_siftUp_0 24 rfl rfl
theorem dJ43_siftUp_0 : decode cJ43_siftUp 0 = .ok (.aload_n 0, 1) := dk_42 (dk_at dksJ43_siftUp_0 0 rfl rfl)
theorem dJ43_siftUp_1 : decode cJ43_siftUp 1 = .ok (.getfield 21, 3) := dk_180 0 21 (dk_at dksJ43_siftUp_0 1 rfl rfl)
theorem dJ43_siftUp_4 : decode cJ43_siftUp 4 = .ok (.ifnull 19, 3) := dk_198 0 19 (dk_at dksJ43_siftUp_0 4 rfl rfl)
theorem dJ43_siftUp_7 : decode cJ43_siftUp 7 = .ok (.iload_n 1, 1) := dk_27 (dk_at dksJ43_siftUp_0 7 rfl rfl)
theorem dJ43_siftUp_8 : decode cJ43_siftUp 8 = .ok (.aload_n 2, 1) := dk_44 (dk_at dksJ43_siftUp_0 8 rfl rfl)
theorem dJ43_siftUp_9 : decode cJ43_siftUp 9 = .ok (.aload_n 0, 1) := dk_42 (dk_at dksJ43_siftUp_0 9 rfl rfl)
theorem dJ43_siftUp_10 : decode cJ43_siftUp 10 = .ok (.getfield 17, 3) := dk_180 0 17 (dk_at dksJ43_siftUp_0 10 rfl rfl)
theorem dJ43_siftUp_13 : decode cJ43_siftUp 13 = .ok (.aload_n 0, 1) := dk_42 (dk_at dksJ43_siftUp_0 13 rfl rfl)
theorem dJ43_siftUp_14 : decode cJ43_siftUp 14 = .ok (.getfield 21, 3) := dk_180 0 21 (dk_at dksJ43_siftUp_0 14 rfl rfl)
theorem dJ43_siftUp_17 : decode cJ43_siftUp 17 = .ok (.invokestatic 136, 3) := dk_184 0 136 (dk_at dksJ43_siftUp_0 17 rfl rfl)
theorem dJ43_siftUp_20 : decode cJ43_siftUp 20 = .ok (.goto 12, 3) := dk_167 0 12 (dk_at dksJ43_siftUp_0 20 rfl rfl)
theorem dJ43_siftUp_23 : decode cJ43_siftUp 23 = .ok (.iload_n 1, 1) := dk_27 (dk_at dksJ43_siftUp_0 23 rfl rfl)
theorem dJ43_siftUp_24 : decode cJ43_siftUp 24 = .ok (.aload_n 2, 1) := dk_44 (dk_at dksJ43_siftUp_1 0 rfl rfl)
theorem dJ43_siftUp_25 : decode cJ43_siftUp 25 = .ok (.aload_n 0, 1) := dk_42 (dk_at dksJ43_siftUp_1 1 rfl rfl)
theorem dJ43_siftUp_26 : decode cJ43_siftUp 26 = .ok (.getfield 17, 3) := dk_180 0 17 (dk_at dksJ43_siftUp_1 2 rfl rfl)
theorem dJ43_siftUp_29 : decode cJ43_siftUp 29 = .ok (.invokestatic 140, 3) := dk_184 0 140 (dk_at dksJ43_siftUp_1 5 rfl rfl)
theorem dJ43_siftUp_32 : decode cJ43_siftUp 32 = .ok (.return_, 1) := dk_177 (dk_at dksJ43_siftUp_1 8 rfl rfl)
abbrev cJ43_siftUpUsingComparator : ByteArray := prog_68_method_29_code
def yJ43_siftUpUsingComparator : MethodName := ⟨RJ43, "siftUpUsingComparator", "(ILjava/lang/Object;[Ljava/lang/Object;Ljava/util/Comparator;)V"⟩
def dkwJ43_siftUpUsingComparator_2 : List UInt8 := [43, 83, 177]
abbrev dktJ43_siftUpUsingComparator_2 : List UInt8 := dkwJ43_siftUpUsingComparator_2 ++ []
def dkwJ43_siftUpUsingComparator_1 : List UInt8 := [185, 0, 149, 3, 0, 155, 0, 6, 167, 0, 14, 44, 26, 25, 5, 83, 21, 4, 59, 167, 255, 216, 44, 26]
abbrev dktJ43_siftUpUsingComparator_1 : List UInt8 := dkwJ43_siftUpUsingComparator_1 ++ dktJ43_siftUpUsingComparator_2
def dkwJ43_siftUpUsingComparator_0 : List UInt8 := [26, 158, 0, 42, 26, 4, 100, 4, 124, 54, 4, 44, 21, 4, 50, 58, 5, 45, 43, 25, 5]
abbrev dktJ43_siftUpUsingComparator_0 : List UInt8 := dkwJ43_siftUpUsingComparator_0 ++ dktJ43_siftUpUsingComparator_1
theorem dksJ43_siftUpUsingComparator_0 : cJ43_siftUpUsingComparator.data.toList.drop 0 = dktJ43_siftUpUsingComparator_0 := by decide +kernel
theorem dksJ43_siftUpUsingComparator_1 : cJ43_siftUpUsingComparator.data.toList.drop 21 = dktJ43_siftUpUsingComparator_1 := dk_seg dksJ43_siftUpUsingComparator_0 21 rfl rfl
theorem dksJ43_siftUpUsingComparator_2 : cJ43_siftUpUsingComparator.data.toList.drop 45 = dktJ43_siftUpUsingComparator_2 := dk_seg dksJ43_siftUpUsingComparator_1 24 rfl rfl
theorem dJ43_siftUpUsingComparator_0 : decode cJ43_siftUpUsingComparator 0 = .ok (.iload_n 0, 1) := dk_26 (dk_at dksJ43_siftUpUsingComparator_0 0 rfl rfl)
theorem dJ43_siftUpUsingComparator_1 : decode cJ43_siftUpUsingComparator 1 = .ok (.ifCond .le 42, 3) := dk_158 0 42 (dk_at dksJ43_siftUpUsingComparator_0 1 rfl rfl)
theorem dJ43_siftUpUsingComparator_4 : decode cJ43_siftUpUsingComparator 4 = .ok (.iload_n 0, 1) := dk_26 (dk_at dksJ43_siftUpUsingComparator_0 4 rfl rfl)
theorem dJ43_siftUpUsingComparator_5 : decode cJ43_siftUpUsingComparator 5 = .ok (.iconst 1, 1) := dk_4 (dk_at dksJ43_siftUpUsingComparator_0 5 rfl rfl)
theorem dJ43_siftUpUsingComparator_6 : decode cJ43_siftUpUsingComparator 6 = .ok (.isub, 1) := dk_100 (dk_at dksJ43_siftUpUsingComparator_0 6 rfl rfl)
theorem dJ43_siftUpUsingComparator_7 : decode cJ43_siftUpUsingComparator 7 = .ok (.iconst 1, 1) := dk_4 (dk_at dksJ43_siftUpUsingComparator_0 7 rfl rfl)
theorem dJ43_siftUpUsingComparator_8 : decode cJ43_siftUpUsingComparator 8 = .ok (.iushr, 1) := dk_124 (dk_at dksJ43_siftUpUsingComparator_0 8 rfl rfl)
theorem dJ43_siftUpUsingComparator_9 : decode cJ43_siftUpUsingComparator 9 = .ok (.istore 4, 2) := dk_54 4 (dk_at dksJ43_siftUpUsingComparator_0 9 rfl rfl)
theorem dJ43_siftUpUsingComparator_11 : decode cJ43_siftUpUsingComparator 11 = .ok (.aload_n 2, 1) := dk_44 (dk_at dksJ43_siftUpUsingComparator_0 11 rfl rfl)
theorem dJ43_siftUpUsingComparator_12 : decode cJ43_siftUpUsingComparator 12 = .ok (.iload 4, 2) := dk_21 4 (dk_at dksJ43_siftUpUsingComparator_0 12 rfl rfl)
theorem dJ43_siftUpUsingComparator_14 : decode cJ43_siftUpUsingComparator 14 = .ok (.aaload, 1) := dk_50 (dk_at dksJ43_siftUpUsingComparator_0 14 rfl rfl)
theorem dJ43_siftUpUsingComparator_15 : decode cJ43_siftUpUsingComparator 15 = .ok (.astore 5, 2) := dk_58 5 (dk_at dksJ43_siftUpUsingComparator_0 15 rfl rfl)
theorem dJ43_siftUpUsingComparator_17 : decode cJ43_siftUpUsingComparator 17 = .ok (.aload_n 3, 1) := dk_45 (dk_at dksJ43_siftUpUsingComparator_0 17 rfl rfl)
theorem dJ43_siftUpUsingComparator_18 : decode cJ43_siftUpUsingComparator 18 = .ok (.aload_n 1, 1) := dk_43 (dk_at dksJ43_siftUpUsingComparator_0 18 rfl rfl)
theorem dJ43_siftUpUsingComparator_19 : decode cJ43_siftUpUsingComparator 19 = .ok (.aload 5, 2) := dk_25 5 (dk_at dksJ43_siftUpUsingComparator_0 19 rfl rfl)
theorem dJ43_siftUpUsingComparator_21 : decode cJ43_siftUpUsingComparator 21 = .ok (.invokeinterface 149 3, 5) := by decide +kernel
theorem dJ43_siftUpUsingComparator_26 : decode cJ43_siftUpUsingComparator 26 = .ok (.ifCond .lt 6, 3) := dk_155 0 6 (dk_at dksJ43_siftUpUsingComparator_1 5 rfl rfl)
theorem dJ43_siftUpUsingComparator_29 : decode cJ43_siftUpUsingComparator 29 = .ok (.goto 14, 3) := dk_167 0 14 (dk_at dksJ43_siftUpUsingComparator_1 8 rfl rfl)
theorem dJ43_siftUpUsingComparator_32 : decode cJ43_siftUpUsingComparator 32 = .ok (.aload_n 2, 1) := dk_44 (dk_at dksJ43_siftUpUsingComparator_1 11 rfl rfl)
theorem dJ43_siftUpUsingComparator_33 : decode cJ43_siftUpUsingComparator 33 = .ok (.iload_n 0, 1) := dk_26 (dk_at dksJ43_siftUpUsingComparator_1 12 rfl rfl)
theorem dJ43_siftUpUsingComparator_34 : decode cJ43_siftUpUsingComparator 34 = .ok (.aload 5, 2) := dk_25 5 (dk_at dksJ43_siftUpUsingComparator_1 13 rfl rfl)
theorem dJ43_siftUpUsingComparator_36 : decode cJ43_siftUpUsingComparator 36 = .ok (.aastore, 1) := dk_83 (dk_at dksJ43_siftUpUsingComparator_1 15 rfl rfl)
theorem dJ43_siftUpUsingComparator_37 : decode cJ43_siftUpUsingComparator 37 = .ok (.iload 4, 2) := dk_21 4 (dk_at dksJ43_siftUpUsingComparator_1 16 rfl rfl)
theorem dJ43_siftUpUsingComparator_39 : decode cJ43_siftUpUsingComparator 39 = .ok (.istore_n 0, 1) := dk_59 (dk_at dksJ43_siftUpUsingComparator_1 18 rfl rfl)
theorem dJ43_siftUpUsingComparator_40 : decode cJ43_siftUpUsingComparator 40 = .ok (.goto (-40), 3) := dk_167 255 216 (dk_at dksJ43_siftUpUsingComparator_1 19 rfl rfl)
theorem dJ43_siftUpUsingComparator_43 : decode cJ43_siftUpUsingComparator 43 = .ok (.aload_n 2, 1) := dk_44 (dk_at dksJ43_siftUpUsingComparator_1 22 rfl rfl)
theorem dJ43_siftUpUsingComparator_44 : decode cJ43_siftUpUsingComparator 44 = .ok (.iload_n 0, 1) := dk_26 (dk_at dksJ43_siftUpUsingComparator_1 23 rfl rfl)
theorem dJ43_siftUpUsingComparator_45 : decode cJ43_siftUpUsingComparator 45 = .ok (.aload_n 1, 1) := dk_43 (dk_at dksJ43_siftUpUsingComparator_2 0 rfl rfl)
theorem dJ43_siftUpUsingComparator_46 : decode cJ43_siftUpUsingComparator 46 = .ok (.aastore, 1) := dk_83 (dk_at dksJ43_siftUpUsingComparator_2 1 rfl rfl)
theorem dJ43_siftUpUsingComparator_47 : decode cJ43_siftUpUsingComparator 47 = .ok (.return_, 1) := dk_177 (dk_at dksJ43_siftUpUsingComparator_2 2 rfl rfl)
abbrev cJ43_poll : ByteArray := prog_68_method_25_code
def yJ43_poll : MethodName := ⟨RJ43, "poll", "()Ljava/lang/Object;"⟩
def dkwJ43_poll_3 : List UInt8 := [43, 29, 25, 5, 184, 0, 129, 44, 176]
abbrev dktJ43_poll_3 : List UInt8 := dkwJ43_poll_3 ++ []
def dkwJ43_poll_2 : List UInt8 := [42, 180, 0, 21, 89, 58, 5, 199, 0, 14, 3, 25, 4, 43, 29, 184, 0, 125, 167, 0, 13, 3, 25, 4]
abbrev dktJ43_poll_2 : List UInt8 := dkwJ43_poll_2 ++ dktJ43_poll_3
def dkwJ43_poll_1 : List UInt8 := [42, 89, 180, 0, 58, 4, 100, 90, 181, 0, 58, 89, 62, 50, 58, 4, 43, 29, 1, 83, 29, 158, 0, 34]
abbrev dktJ43_poll_1 : List UInt8 := dkwJ43_poll_1 ++ dktJ43_poll_2
def dkwJ43_poll_0 : List UInt8 := [42, 180, 0, 17, 89, 76, 3, 50, 89, 77, 198, 0, 69, 42, 89, 180, 0, 93, 4, 96, 181, 0, 93, 43]
abbrev dktJ43_poll_0 : List UInt8 := dkwJ43_poll_0 ++ dktJ43_poll_1
theorem dksJ43_poll_0 : cJ43_poll.data.toList.drop 0 = dktJ43_poll_0 := by decide +kernel
theorem dksJ43_poll_1 : cJ43_poll.data.toList.drop 24 = dktJ43_poll_1 := dk_seg dksJ43_poll_0 24 rfl rfl
theorem dksJ43_poll_2 : cJ43_poll.data.toList.drop 48 = dktJ43_poll_2 := dk_seg dksJ43_poll_1 24 rfl rfl
theorem dksJ43_poll_3 : cJ43_poll.data.toList.drop 72 = dktJ43_poll_3 := dk_seg dksJ43_poll_2 24 rfl rfl
theorem dJ43_poll_0 : decode cJ43_poll 0 = .ok (.aload_n 0, 1) := dk_42 (dk_at dksJ43_poll_0 0 rfl rfl)
theorem dJ43_poll_1 : decode cJ43_poll 1 = .ok (.getfield 17, 3) := dk_180 0 17 (dk_at dksJ43_poll_0 1 rfl rfl)
theorem dJ43_poll_4 : decode cJ43_poll 4 = .ok (.dup, 1) := dk_89 (dk_at dksJ43_poll_0 4 rfl rfl)
theorem dJ43_poll_5 : decode cJ43_poll 5 = .ok (.astore_n 1, 1) := dk_76 (dk_at dksJ43_poll_0 5 rfl rfl)
theorem dJ43_poll_6 : decode cJ43_poll 6 = .ok (.iconst 0, 1) := dk_3 (dk_at dksJ43_poll_0 6 rfl rfl)
theorem dJ43_poll_7 : decode cJ43_poll 7 = .ok (.aaload, 1) := dk_50 (dk_at dksJ43_poll_0 7 rfl rfl)
theorem dJ43_poll_8 : decode cJ43_poll 8 = .ok (.dup, 1) := dk_89 (dk_at dksJ43_poll_0 8 rfl rfl)
theorem dJ43_poll_9 : decode cJ43_poll 9 = .ok (.astore_n 2, 1) := dk_77 (dk_at dksJ43_poll_0 9 rfl rfl)
theorem dJ43_poll_10 : decode cJ43_poll 10 = .ok (.ifnull 69, 3) := dk_198 0 69 (dk_at dksJ43_poll_0 10 rfl rfl)
theorem dJ43_poll_13 : decode cJ43_poll 13 = .ok (.aload_n 0, 1) := dk_42 (dk_at dksJ43_poll_0 13 rfl rfl)
theorem dJ43_poll_14 : decode cJ43_poll 14 = .ok (.dup, 1) := dk_89 (dk_at dksJ43_poll_0 14 rfl rfl)
theorem dJ43_poll_15 : decode cJ43_poll 15 = .ok (.getfield 93, 3) := dk_180 0 93 (dk_at dksJ43_poll_0 15 rfl rfl)
theorem dJ43_poll_18 : decode cJ43_poll 18 = .ok (.iconst 1, 1) := dk_4 (dk_at dksJ43_poll_0 18 rfl rfl)
theorem dJ43_poll_19 : decode cJ43_poll 19 = .ok (.iadd, 1) := dk_96 (dk_at dksJ43_poll_0 19 rfl rfl)
theorem dJ43_poll_20 : decode cJ43_poll 20 = .ok (.putfield 93, 3) := dk_181 0 93 (dk_at dksJ43_poll_0 20 rfl rfl)
theorem dJ43_poll_23 : decode cJ43_poll 23 = .ok (.aload_n 1, 1) := dk_43 (dk_at dksJ43_poll_0 23 rfl rfl)
theorem dJ43_poll_24 : decode cJ43_poll 24 = .ok (.aload_n 0, 1) := dk_42 (dk_at dksJ43_poll_1 0 rfl rfl)
theorem dJ43_poll_25 : decode cJ43_poll 25 = .ok (.dup, 1) := dk_89 (dk_at dksJ43_poll_1 1 rfl rfl)
theorem dJ43_poll_26 : decode cJ43_poll 26 = .ok (.getfield 58, 3) := dk_180 0 58 (dk_at dksJ43_poll_1 2 rfl rfl)
theorem dJ43_poll_29 : decode cJ43_poll 29 = .ok (.iconst 1, 1) := dk_4 (dk_at dksJ43_poll_1 5 rfl rfl)
theorem dJ43_poll_30 : decode cJ43_poll 30 = .ok (.isub, 1) := dk_100 (dk_at dksJ43_poll_1 6 rfl rfl)
theorem dJ43_poll_31 : decode cJ43_poll 31 = .ok (.dup_x1, 1) := dk_90 (dk_at dksJ43_poll_1 7 rfl rfl)
theorem dJ43_poll_32 : decode cJ43_poll 32 = .ok (.putfield 58, 3) := dk_181 0 58 (dk_at dksJ43_poll_1 8 rfl rfl)
theorem dJ43_poll_35 : decode cJ43_poll 35 = .ok (.dup, 1) := dk_89 (dk_at dksJ43_poll_1 11 rfl rfl)
theorem dJ43_poll_36 : decode cJ43_poll 36 = .ok (.istore_n 3, 1) := dk_62 (dk_at dksJ43_poll_1 12 rfl rfl)
theorem dJ43_poll_37 : decode cJ43_poll 37 = .ok (.aaload, 1) := dk_50 (dk_at dksJ43_poll_1 13 rfl rfl)
theorem dJ43_poll_38 : decode cJ43_poll 38 = .ok (.astore 4, 2) := dk_58 4 (dk_at dksJ43_poll_1 14 rfl rfl)
theorem dJ43_poll_40 : decode cJ43_poll 40 = .ok (.aload_n 1, 1) := dk_43 (dk_at dksJ43_poll_1 16 rfl rfl)
theorem dJ43_poll_41 : decode cJ43_poll 41 = .ok (.iload_n 3, 1) := dk_29 (dk_at dksJ43_poll_1 17 rfl rfl)
theorem dJ43_poll_42 : decode cJ43_poll 42 = .ok (.aconst_null, 1) := dk_1 (dk_at dksJ43_poll_1 18 rfl rfl)
theorem dJ43_poll_43 : decode cJ43_poll 43 = .ok (.aastore, 1) := dk_83 (dk_at dksJ43_poll_1 19 rfl rfl)
theorem dJ43_poll_44 : decode cJ43_poll 44 = .ok (.iload_n 3, 1) := dk_29 (dk_at dksJ43_poll_1 20 rfl rfl)
theorem dJ43_poll_45 : decode cJ43_poll 45 = .ok (.ifCond .le 34, 3) := dk_158 0 34 (dk_at dksJ43_poll_1 21 rfl rfl)
theorem dJ43_poll_48 : decode cJ43_poll 48 = .ok (.aload_n 0, 1) := dk_42 (dk_at dksJ43_poll_2 0 rfl rfl)
theorem dJ43_poll_49 : decode cJ43_poll 49 = .ok (.getfield 21, 3) := dk_180 0 21 (dk_at dksJ43_poll_2 1 rfl rfl)
theorem dJ43_poll_52 : decode cJ43_poll 52 = .ok (.dup, 1) := dk_89 (dk_at dksJ43_poll_2 4 rfl rfl)
theorem dJ43_poll_53 : decode cJ43_poll 53 = .ok (.astore 5, 2) := dk_58 5 (dk_at dksJ43_poll_2 5 rfl rfl)
theorem dJ43_poll_55 : decode cJ43_poll 55 = .ok (.ifnonnull 14, 3) := dk_199 0 14 (dk_at dksJ43_poll_2 7 rfl rfl)
theorem dJ43_poll_58 : decode cJ43_poll 58 = .ok (.iconst 0, 1) := dk_3 (dk_at dksJ43_poll_2 10 rfl rfl)
theorem dJ43_poll_59 : decode cJ43_poll 59 = .ok (.aload 4, 2) := dk_25 4 (dk_at dksJ43_poll_2 11 rfl rfl)
theorem dJ43_poll_61 : decode cJ43_poll 61 = .ok (.aload_n 1, 1) := dk_43 (dk_at dksJ43_poll_2 13 rfl rfl)
theorem dJ43_poll_62 : decode cJ43_poll 62 = .ok (.iload_n 3, 1) := dk_29 (dk_at dksJ43_poll_2 14 rfl rfl)
theorem dJ43_poll_63 : decode cJ43_poll 63 = .ok (.invokestatic 125, 3) := dk_184 0 125 (dk_at dksJ43_poll_2 15 rfl rfl)
theorem dJ43_poll_66 : decode cJ43_poll 66 = .ok (.goto 13, 3) := dk_167 0 13 (dk_at dksJ43_poll_2 18 rfl rfl)
theorem dJ43_poll_69 : decode cJ43_poll 69 = .ok (.iconst 0, 1) := dk_3 (dk_at dksJ43_poll_2 21 rfl rfl)
theorem dJ43_poll_70 : decode cJ43_poll 70 = .ok (.aload 4, 2) := dk_25 4 (dk_at dksJ43_poll_2 22 rfl rfl)
theorem dJ43_poll_72 : decode cJ43_poll 72 = .ok (.aload_n 1, 1) := dk_43 (dk_at dksJ43_poll_3 0 rfl rfl)
theorem dJ43_poll_73 : decode cJ43_poll 73 = .ok (.iload_n 3, 1) := dk_29 (dk_at dksJ43_poll_3 1 rfl rfl)
theorem dJ43_poll_74 : decode cJ43_poll 74 = .ok (.aload 5, 2) := dk_25 5 (dk_at dksJ43_poll_3 2 rfl rfl)
theorem dJ43_poll_76 : decode cJ43_poll 76 = .ok (.invokestatic 129, 3) := dk_184 0 129 (dk_at dksJ43_poll_3 4 rfl rfl)
theorem dJ43_poll_79 : decode cJ43_poll 79 = .ok (.aload_n 2, 1) := dk_44 (dk_at dksJ43_poll_3 7 rfl rfl)
theorem dJ43_poll_80 : decode cJ43_poll 80 = .ok (.areturn, 1) := dk_176 (dk_at dksJ43_poll_3 8 rfl rfl)
abbrev cJ43_siftDownUsingComparator : ByteArray := prog_68_method_32_code
def yJ43_siftDownUsingComparator : MethodName := ⟨RJ43, "siftDownUsingComparator", "(ILjava/lang/Object;[Ljava/lang/Object;ILjava/util/Comparator;)V"⟩
def dkwJ43_siftDownUsingComparator_4 : List UInt8 := [43, 83, 177]
abbrev dktJ43_siftDownUsingComparator_4 : List UInt8 := dkwJ43_siftDownUsingComparator_4 ++ []
def dkwJ43_siftDownUsingComparator_3 : List UInt8 := [185, 0, 149, 3, 0, 157, 0, 6, 167, 0, 14, 44, 26, 25, 7, 83, 21, 6, 59, 167, 255, 176, 44, 26]
abbrev dktJ43_siftDownUsingComparator_3 : List UInt8 := dkwJ43_siftDownUsingComparator_3 ++ dktJ43_siftDownUsingComparator_4
def dkwJ43_siftDownUsingComparator_2 : List UInt8 := [185, 0, 149, 3, 0, 158, 0, 12, 44, 21, 8, 89, 54, 6, 50, 58, 7, 25, 4, 43, 25, 7]
abbrev dktJ43_siftDownUsingComparator_2 : List UInt8 := dkwJ43_siftDownUsingComparator_2 ++ dktJ43_siftDownUsingComparator_3
def dkwJ43_siftDownUsingComparator_1 : List UInt8 := [21, 6, 4, 96, 54, 8, 21, 8, 29, 162, 0, 28, 25, 4, 25, 7, 44, 21, 8, 50]
abbrev dktJ43_siftDownUsingComparator_1 : List UInt8 := dkwJ43_siftDownUsingComparator_1 ++ dktJ43_siftDownUsingComparator_2
def dkwJ43_siftDownUsingComparator_0 : List UInt8 := [29, 4, 124, 54, 5, 26, 21, 5, 162, 0, 80, 26, 4, 120, 4, 96, 54, 6, 44, 21, 6, 50, 58, 7]
abbrev dktJ43_siftDownUsingComparator_0 : List UInt8 := dkwJ43_siftDownUsingComparator_0 ++ dktJ43_siftDownUsingComparator_1
theorem dksJ43_siftDownUsingComparator_0 : cJ43_siftDownUsingComparator.data.toList.drop 0 = dktJ43_siftDownUsingComparator_0 := by decide +kernel
theorem dksJ43_siftDownUsingComparator_1 : cJ43_siftDownUsingComparator.data.toList.drop 24 = dktJ43_siftDownUsingComparator_1 := dk_seg dksJ43_siftDownUsingComparator_0 24 rfl rfl
theorem dksJ43_siftDownUsingComparator_2 : cJ43_siftDownUsingComparator.data.toList.drop 44 = dktJ43_siftDownUsingComparator_2 := dk_seg dksJ43_siftDownUsingComparator_1 20 rfl rfl
theorem dksJ43_siftDownUsingComparator_3 : cJ43_siftDownUsingComparator.data.toList.drop 66 = dktJ43_siftDownUsingComparator_3 := dk_seg dksJ43_siftDownUsingComparator_2 22 rfl rfl
theorem dksJ43_siftDownUsingComparator_4 : cJ43_siftDownUsingComparator.data.toList.drop 90 = dktJ43_siftDownUsingComparator_4 := dk_seg dksJ43_siftDownUsingComparator_3 24 rfl rfl
theorem dJ43_siftDownUsingComparator_0 : decode cJ43_siftDownUsingComparator 0 = .ok (.iload_n 3, 1) := dk_29 (dk_at dksJ43_siftDownUsingComparator_0 0 rfl rfl)
theorem dJ43_siftDownUsingComparator_1 : decode cJ43_siftDownUsingComparator 1 = .ok (.iconst 1, 1) := dk_4 (dk_at dksJ43_siftDownUsingComparator_0 1 rfl rfl)
theorem dJ43_siftDownUsingComparator_2 : decode cJ43_siftDownUsingComparator 2 = .ok (.iushr, 1) := dk_124 (dk_at dksJ43_siftDownUsingComparator_0 2 rfl rfl)
theorem dJ43_siftDownUsingComparator_3 : decode cJ43_siftDownUsingComparator 3 = .ok (.istore 5, 2) := dk_54 5 (dk_at dksJ43_siftDownUsingComparator_0 3 rfl rfl)
theorem dJ43_siftDownUsingComparator_5 : decode cJ43_siftDownUsingComparator 5 = .ok (.iload_n 0, 1) := dk_26 (dk_at dksJ43_siftDownUsingComparator_0 5 rfl rfl)
theorem dJ43_siftDownUsingComparator_6 : decode cJ43_siftDownUsingComparator 6 = .ok (.iload 5, 2) := dk_21 5 (dk_at dksJ43_siftDownUsingComparator_0 6 rfl rfl)
theorem dJ43_siftDownUsingComparator_8 : decode cJ43_siftDownUsingComparator 8 = .ok (.if_icmp .ge 80, 3) := dk_162 0 80 (dk_at dksJ43_siftDownUsingComparator_0 8 rfl rfl)
theorem dJ43_siftDownUsingComparator_11 : decode cJ43_siftDownUsingComparator 11 = .ok (.iload_n 0, 1) := dk_26 (dk_at dksJ43_siftDownUsingComparator_0 11 rfl rfl)
theorem dJ43_siftDownUsingComparator_12 : decode cJ43_siftDownUsingComparator 12 = .ok (.iconst 1, 1) := dk_4 (dk_at dksJ43_siftDownUsingComparator_0 12 rfl rfl)
theorem dJ43_siftDownUsingComparator_13 : decode cJ43_siftDownUsingComparator 13 = .ok (.ishl, 1) := dk_120 (dk_at dksJ43_siftDownUsingComparator_0 13 rfl rfl)
theorem dJ43_siftDownUsingComparator_14 : decode cJ43_siftDownUsingComparator 14 = .ok (.iconst 1, 1) := dk_4 (dk_at dksJ43_siftDownUsingComparator_0 14 rfl rfl)
theorem dJ43_siftDownUsingComparator_15 : decode cJ43_siftDownUsingComparator 15 = .ok (.iadd, 1) := dk_96 (dk_at dksJ43_siftDownUsingComparator_0 15 rfl rfl)
theorem dJ43_siftDownUsingComparator_16 : decode cJ43_siftDownUsingComparator 16 = .ok (.istore 6, 2) := dk_54 6 (dk_at dksJ43_siftDownUsingComparator_0 16 rfl rfl)
theorem dJ43_siftDownUsingComparator_18 : decode cJ43_siftDownUsingComparator 18 = .ok (.aload_n 2, 1) := dk_44 (dk_at dksJ43_siftDownUsingComparator_0 18 rfl rfl)
theorem dJ43_siftDownUsingComparator_19 : decode cJ43_siftDownUsingComparator 19 = .ok (.iload 6, 2) := dk_21 6 (dk_at dksJ43_siftDownUsingComparator_0 19 rfl rfl)
theorem dJ43_siftDownUsingComparator_21 : decode cJ43_siftDownUsingComparator 21 = .ok (.aaload, 1) := dk_50 (dk_at dksJ43_siftDownUsingComparator_0 21 rfl rfl)
theorem dJ43_siftDownUsingComparator_22 : decode cJ43_siftDownUsingComparator 22 = .ok (.astore 7, 2) := dk_58 7 (dk_at dksJ43_siftDownUsingComparator_0 22 rfl rfl)
theorem dJ43_siftDownUsingComparator_24 : decode cJ43_siftDownUsingComparator 24 = .ok (.iload 6, 2) := dk_21 6 (dk_at dksJ43_siftDownUsingComparator_1 0 rfl rfl)
theorem dJ43_siftDownUsingComparator_26 : decode cJ43_siftDownUsingComparator 26 = .ok (.iconst 1, 1) := dk_4 (dk_at dksJ43_siftDownUsingComparator_1 2 rfl rfl)
theorem dJ43_siftDownUsingComparator_27 : decode cJ43_siftDownUsingComparator 27 = .ok (.iadd, 1) := dk_96 (dk_at dksJ43_siftDownUsingComparator_1 3 rfl rfl)
theorem dJ43_siftDownUsingComparator_28 : decode cJ43_siftDownUsingComparator 28 = .ok (.istore 8, 2) := dk_54 8 (dk_at dksJ43_siftDownUsingComparator_1 4 rfl rfl)
theorem dJ43_siftDownUsingComparator_30 : decode cJ43_siftDownUsingComparator 30 = .ok (.iload 8, 2) := dk_21 8 (dk_at dksJ43_siftDownUsingComparator_1 6 rfl rfl)
theorem dJ43_siftDownUsingComparator_32 : decode cJ43_siftDownUsingComparator 32 = .ok (.iload_n 3, 1) := dk_29 (dk_at dksJ43_siftDownUsingComparator_1 8 rfl rfl)
theorem dJ43_siftDownUsingComparator_33 : decode cJ43_siftDownUsingComparator 33 = .ok (.if_icmp .ge 28, 3) := dk_162 0 28 (dk_at dksJ43_siftDownUsingComparator_1 9 rfl rfl)
theorem dJ43_siftDownUsingComparator_36 : decode cJ43_siftDownUsingComparator 36 = .ok (.aload 4, 2) := dk_25 4 (dk_at dksJ43_siftDownUsingComparator_1 12 rfl rfl)
theorem dJ43_siftDownUsingComparator_38 : decode cJ43_siftDownUsingComparator 38 = .ok (.aload 7, 2) := dk_25 7 (dk_at dksJ43_siftDownUsingComparator_1 14 rfl rfl)
theorem dJ43_siftDownUsingComparator_40 : decode cJ43_siftDownUsingComparator 40 = .ok (.aload_n 2, 1) := dk_44 (dk_at dksJ43_siftDownUsingComparator_1 16 rfl rfl)
theorem dJ43_siftDownUsingComparator_41 : decode cJ43_siftDownUsingComparator 41 = .ok (.iload 8, 2) := dk_21 8 (dk_at dksJ43_siftDownUsingComparator_1 17 rfl rfl)
theorem dJ43_siftDownUsingComparator_43 : decode cJ43_siftDownUsingComparator 43 = .ok (.aaload, 1) := dk_50 (dk_at dksJ43_siftDownUsingComparator_1 19 rfl rfl)
theorem dJ43_siftDownUsingComparator_44 : decode cJ43_siftDownUsingComparator 44 = .ok (.invokeinterface 149 3, 5) := by decide +kernel
theorem dJ43_siftDownUsingComparator_49 : decode cJ43_siftDownUsingComparator 49 = .ok (.ifCond .le 12, 3) := dk_158 0 12 (dk_at dksJ43_siftDownUsingComparator_2 5 rfl rfl)
theorem dJ43_siftDownUsingComparator_52 : decode cJ43_siftDownUsingComparator 52 = .ok (.aload_n 2, 1) := dk_44 (dk_at dksJ43_siftDownUsingComparator_2 8 rfl rfl)
theorem dJ43_siftDownUsingComparator_53 : decode cJ43_siftDownUsingComparator 53 = .ok (.iload 8, 2) := dk_21 8 (dk_at dksJ43_siftDownUsingComparator_2 9 rfl rfl)
theorem dJ43_siftDownUsingComparator_55 : decode cJ43_siftDownUsingComparator 55 = .ok (.dup, 1) := dk_89 (dk_at dksJ43_siftDownUsingComparator_2 11 rfl rfl)
theorem dJ43_siftDownUsingComparator_56 : decode cJ43_siftDownUsingComparator 56 = .ok (.istore 6, 2) := dk_54 6 (dk_at dksJ43_siftDownUsingComparator_2 12 rfl rfl)
theorem dJ43_siftDownUsingComparator_58 : decode cJ43_siftDownUsingComparator 58 = .ok (.aaload, 1) := dk_50 (dk_at dksJ43_siftDownUsingComparator_2 14 rfl rfl)
theorem dJ43_siftDownUsingComparator_59 : decode cJ43_siftDownUsingComparator 59 = .ok (.astore 7, 2) := dk_58 7 (dk_at dksJ43_siftDownUsingComparator_2 15 rfl rfl)
theorem dJ43_siftDownUsingComparator_61 : decode cJ43_siftDownUsingComparator 61 = .ok (.aload 4, 2) := dk_25 4 (dk_at dksJ43_siftDownUsingComparator_2 17 rfl rfl)
theorem dJ43_siftDownUsingComparator_63 : decode cJ43_siftDownUsingComparator 63 = .ok (.aload_n 1, 1) := dk_43 (dk_at dksJ43_siftDownUsingComparator_2 19 rfl rfl)
theorem dJ43_siftDownUsingComparator_64 : decode cJ43_siftDownUsingComparator 64 = .ok (.aload 7, 2) := dk_25 7 (dk_at dksJ43_siftDownUsingComparator_2 20 rfl rfl)
theorem dJ43_siftDownUsingComparator_66 : decode cJ43_siftDownUsingComparator 66 = .ok (.invokeinterface 149 3, 5) := by decide +kernel
theorem dJ43_siftDownUsingComparator_71 : decode cJ43_siftDownUsingComparator 71 = .ok (.ifCond .gt 6, 3) := dk_157 0 6 (dk_at dksJ43_siftDownUsingComparator_3 5 rfl rfl)
theorem dJ43_siftDownUsingComparator_74 : decode cJ43_siftDownUsingComparator 74 = .ok (.goto 14, 3) := dk_167 0 14 (dk_at dksJ43_siftDownUsingComparator_3 8 rfl rfl)
theorem dJ43_siftDownUsingComparator_77 : decode cJ43_siftDownUsingComparator 77 = .ok (.aload_n 2, 1) := dk_44 (dk_at dksJ43_siftDownUsingComparator_3 11 rfl rfl)
theorem dJ43_siftDownUsingComparator_78 : decode cJ43_siftDownUsingComparator 78 = .ok (.iload_n 0, 1) := dk_26 (dk_at dksJ43_siftDownUsingComparator_3 12 rfl rfl)
theorem dJ43_siftDownUsingComparator_79 : decode cJ43_siftDownUsingComparator 79 = .ok (.aload 7, 2) := dk_25 7 (dk_at dksJ43_siftDownUsingComparator_3 13 rfl rfl)
theorem dJ43_siftDownUsingComparator_81 : decode cJ43_siftDownUsingComparator 81 = .ok (.aastore, 1) := dk_83 (dk_at dksJ43_siftDownUsingComparator_3 15 rfl rfl)
theorem dJ43_siftDownUsingComparator_82 : decode cJ43_siftDownUsingComparator 82 = .ok (.iload 6, 2) := dk_21 6 (dk_at dksJ43_siftDownUsingComparator_3 16 rfl rfl)
theorem dJ43_siftDownUsingComparator_84 : decode cJ43_siftDownUsingComparator 84 = .ok (.istore_n 0, 1) := dk_59 (dk_at dksJ43_siftDownUsingComparator_3 18 rfl rfl)
theorem dJ43_siftDownUsingComparator_85 : decode cJ43_siftDownUsingComparator 85 = .ok (.goto (-80), 3) := dk_167 255 176 (dk_at dksJ43_siftDownUsingComparator_3 19 rfl rfl)
theorem dJ43_siftDownUsingComparator_88 : decode cJ43_siftDownUsingComparator 88 = .ok (.aload_n 2, 1) := dk_44 (dk_at dksJ43_siftDownUsingComparator_3 22 rfl rfl)
theorem dJ43_siftDownUsingComparator_89 : decode cJ43_siftDownUsingComparator 89 = .ok (.iload_n 0, 1) := dk_26 (dk_at dksJ43_siftDownUsingComparator_3 23 rfl rfl)
theorem dJ43_siftDownUsingComparator_90 : decode cJ43_siftDownUsingComparator 90 = .ok (.aload_n 1, 1) := dk_43 (dk_at dksJ43_siftDownUsingComparator_4 0 rfl rfl)
theorem dJ43_siftDownUsingComparator_91 : decode cJ43_siftDownUsingComparator 91 = .ok (.aastore, 1) := dk_83 (dk_at dksJ43_siftDownUsingComparator_4 1 rfl rfl)
theorem dJ43_siftDownUsingComparator_92 : decode cJ43_siftDownUsingComparator 92 = .ok (.return_, 1) := dk_177 (dk_at dksJ43_siftDownUsingComparator_4 2 rfl rfl)
theorem q154 : (Jvm.Cond.initialized "java/util/PriorityQueue") ∈ lw_all := lw_g (lw_at lw_m1 57 rfl) rfl
theorem q830 : (Jvm.Cond.castable "java/util/PriorityQueue" "java/util/Collection") ∈ lw_tbl := lw_at lw_m4 13 rfl
theorem q831 : (Jvm.Cond.selects "java/util/PriorityQueue" ({ cls := "java/util/Collection", name := "iterator", desc := "()Ljava/util/Iterator;" } : Jvm.MethodName) ({ cls := "java/util/PriorityQueue", name := "iterator", desc := "()Ljava/util/Iterator;" } : Jvm.MethodName)) ∈ lw_all := lw_g (lw_at lw_m4 14 rfl) rfl
theorem q832 : (Jvm.Cond.unhidden "java/util/PriorityQueue" "iterator" "()Ljava/util/Iterator;") ∈ lw_tbl := lw_at lw_m4 15 rfl
theorem q833 : (Jvm.Cond.instanceMethod ({ cls := "java/util/PriorityQueue", name := "iterator", desc := "()Ljava/util/Iterator;" } : Jvm.MethodName)) ∈ lw_all := lw_g (lw_at lw_m4 16 rfl) rfl
theorem q834 : (Jvm.Cond.publicMethod ({ cls := "java/util/PriorityQueue", name := "iterator", desc := "()Ljava/util/Iterator;" } : Jvm.MethodName)) ∈ lw_tbl := lw_at lw_m4 17 rfl
theorem q835 : (Jvm.Cond.code ({ cls := "java/util/PriorityQueue", name := "iterator", desc := "()Ljava/util/Iterator;" } : Jvm.MethodName) prog_68_method_22_code (1 : Nat) (Option.some (Jvm.ClassFile.FieldType.object "java/util/Iterator"))) ∈ lw_all := lw_g (lw_at lw_m4 18 rfl) rfl
theorem q836 : (Jvm.Cond.classLink "java/util/PriorityQueue" (121 : Nat) "java/util/PriorityQueue$Itr") ∈ lw_all := lw_g (lw_at lw_m4 19 rfl) rfl
theorem q838 : (Jvm.Cond.methodLink "java/util/PriorityQueue" (123 : Nat) ({ cls := "java/util/PriorityQueue$Itr", name := "<init>", desc := "(Ljava/util/PriorityQueue;)V" } : Jvm.MethodName)) ∈ lw_all := lw_g (lw_at lw_m4 21 rfl) rfl
theorem q1130 : (Jvm.Cond.selects "java/util/PriorityQueue" ({ cls := "java/lang/Object", name := "getClass", desc := "()Ljava/lang/Class;" } : Jvm.MethodName) ({ cls := "java/lang/Object", name := "getClass", desc := "()Ljava/lang/Class;" } : Jvm.MethodName)) ∈ lw_all := lw_g (lw_at lw_m5 73 rfl) rfl
theorem q1843 : (Jvm.Cond.selects "java/util/PriorityQueue" ({ cls := "java/util/Collection", name := "contains", desc := "(Ljava/lang/Object;)Z" } : Jvm.MethodName) ({ cls := "java/util/PriorityQueue", name := "contains", desc := "(Ljava/lang/Object;)Z" } : Jvm.MethodName)) ∈ lw_all := lw_g (lw_at lw_m8 66 rfl) rfl
theorem q1844 : (Jvm.Cond.unhidden "java/util/PriorityQueue" "contains" "(Ljava/lang/Object;)Z") ∈ lw_tbl := lw_at lw_m8 67 rfl
theorem q1845 : (Jvm.Cond.instanceMethod ({ cls := "java/util/PriorityQueue", name := "contains", desc := "(Ljava/lang/Object;)Z" } : Jvm.MethodName)) ∈ lw_all := lw_g (lw_at lw_m8 68 rfl) rfl
theorem q1846 : (Jvm.Cond.publicMethod ({ cls := "java/util/PriorityQueue", name := "contains", desc := "(Ljava/lang/Object;)Z" } : Jvm.MethodName)) ∈ lw_tbl := lw_at lw_m8 69 rfl
theorem q1847 : (Jvm.Cond.code ({ cls := "java/util/PriorityQueue", name := "contains", desc := "(Ljava/lang/Object;)Z" } : Jvm.MethodName) prog_68_method_19_code (2 : Nat) (Option.some Jvm.ClassFile.FieldType.boolean)) ∈ lw_all := lw_g (lw_at lw_m8 70 rfl) rfl
theorem q1848 : (Jvm.Cond.methodLink "java/util/PriorityQueue" (107 : Nat) ({ cls := "java/util/PriorityQueue", name := "indexOf", desc := "(Ljava/lang/Object;)I" } : Jvm.MethodName)) ∈ lw_all := lw_g (lw_at lw_m8 71 rfl) rfl
theorem q1849 : (Jvm.Cond.privateMethod ({ cls := "java/util/PriorityQueue", name := "indexOf", desc := "(Ljava/lang/Object;)I" } : Jvm.MethodName)) ∈ lw_tbl := lw_at lw_m8 72 rfl
theorem q1850 : (Jvm.Cond.instanceMethod ({ cls := "java/util/PriorityQueue", name := "indexOf", desc := "(Ljava/lang/Object;)I" } : Jvm.MethodName)) ∈ lw_all := lw_g (lw_at lw_m8 73 rfl) rfl
theorem q1851 : (Jvm.Cond.instantiable "java/util/PriorityQueue" (4 : Nat)) ∈ lw_all := lw_g (lw_at lw_m8 74 rfl) rfl
theorem q1852 : (Jvm.Cond.code ({ cls := "java/util/PriorityQueue", name := "indexOf", desc := "(Ljava/lang/Object;)I" } : Jvm.MethodName) prog_68_method_16_code (5 : Nat) (Option.some Jvm.ClassFile.FieldType.int)) ∈ lw_all := lw_g (lw_at lw_m8 75 rfl) rfl
theorem q1853 : (Jvm.Cond.methodLink "java/util/PriorityQueue" (104 : Nat) ({ cls := "java/lang/Object", name := "equals", desc := "(Ljava/lang/Object;)Z" } : Jvm.MethodName)) ∈ lw_all := lw_g (lw_at lw_m8 76 rfl) rfl
theorem q2272 : (Jvm.Cond.instanceMethod ({ cls := "java/util/PriorityQueue", name := "<init>", desc := "(ILjava/util/Comparator;)V" } : Jvm.MethodName)) ∈ lw_all := lw_g (lw_at lw_m10 15 rfl) rfl
theorem q2273 : (Jvm.Cond.code ({ cls := "java/util/PriorityQueue", name := "<init>", desc := "(ILjava/util/Comparator;)V" } : Jvm.MethodName) prog_68_method_4_code (3 : Nat) (Option.none : Option Jvm.ClassFile.FieldType)) ∈ lw_all := lw_g (lw_at lw_m10 16 rfl) rfl
theorem q2274 : (Jvm.Cond.methodLink "java/util/PriorityQueue" (7 : Nat) ({ cls := "java/util/AbstractQueue", name := "<init>", desc := "()V" } : Jvm.MethodName)) ∈ lw_all := lw_g (lw_at lw_m10 17 rfl) rfl
theorem q2278 : (Jvm.Cond.classLink "java/util/PriorityQueue" (15 : Nat) "java/lang/Object") ∈ lw_all := lw_g (lw_at lw_m10 21 rfl) rfl
theorem q2280 : (Jvm.Cond.fieldLink "java/util/PriorityQueue" (17 : Nat) "java/util/PriorityQueue" "queue" "[Ljava/lang/Object;") ∈ lw_all := lw_g (lw_at lw_m10 23 rfl) rfl
theorem q2282 : (Jvm.Cond.fieldLink "java/util/PriorityQueue" (58 : Nat) "java/util/PriorityQueue" "size" "I") ∈ lw_all := lw_g (lw_at lw_m10 25 rfl) rfl
theorem q2283 : (Jvm.Cond.fieldLink "java/util/PriorityQueue" (21 : Nat) "java/util/PriorityQueue" "comparator" "Ljava/util/Comparator;") ∈ lw_all := lw_g (lw_at lw_m10 26 rfl) rfl
theorem q2285 : (Jvm.Cond.fieldLink "java/util/PriorityQueue" (93 : Nat) "java/util/PriorityQueue" "modCount" "I") ∈ lw_all := lw_g (lw_at lw_m10 28 rfl) rfl
theorem q2286 : (Jvm.Cond.lays "java/util/PriorityQueue" "java/util/PriorityQueue" "queue" "[Ljava/lang/Object;") ∈ lw_all := lw_g (lw_at lw_m10 29 rfl) rfl
theorem q2287 : (Jvm.Cond.soleField "java/util/PriorityQueue" "queue") ∈ lw_all := lw_g (lw_at lw_m10 30 rfl) rfl
theorem q2288 : (Jvm.Cond.lays "java/util/PriorityQueue" "java/util/PriorityQueue" "size" "I") ∈ lw_all := lw_g (lw_at lw_m10 31 rfl) rfl
theorem q2289 : (Jvm.Cond.soleField "java/util/PriorityQueue" "size") ∈ lw_all := lw_g (lw_at lw_m10 32 rfl) rfl
theorem q2290 : (Jvm.Cond.laysFinal "java/util/PriorityQueue" "java/util/PriorityQueue" "comparator" "Ljava/util/Comparator;") ∈ lw_all := lw_g (lw_at lw_m10 33 rfl) rfl
theorem q2291 : (Jvm.Cond.soleField "java/util/PriorityQueue" "comparator") ∈ lw_all := lw_g (lw_at lw_m10 34 rfl) rfl
theorem q2292 : (Jvm.Cond.lays "java/util/PriorityQueue" "java/util/PriorityQueue" "modCount" "I") ∈ lw_all := lw_g (lw_at lw_m10 35 rfl) rfl
theorem q2293 : (Jvm.Cond.soleField "java/util/PriorityQueue" "modCount") ∈ lw_all := lw_g (lw_at lw_m10 36 rfl) rfl
theorem q2294 : (Jvm.Cond.superclass "java/util/PriorityQueue" "java/util/AbstractQueue") ∈ lw_all := lw_g (lw_at lw_m10 37 rfl) rfl
theorem q2304 : (Jvm.Cond.instanceMethod ({ cls := "java/util/PriorityQueue", name := "add", desc := "(Ljava/lang/Object;)Z" } : Jvm.MethodName)) ∈ lw_all := lw_g (lw_at lw_m10 47 rfl) rfl
theorem q2305 : (Jvm.Cond.selects "java/util/PriorityQueue" ({ cls := "java/util/PriorityQueue", name := "add", desc := "(Ljava/lang/Object;)Z" } : Jvm.MethodName) ({ cls := "java/util/PriorityQueue", name := "add", desc := "(Ljava/lang/Object;)Z" } : Jvm.MethodName)) ∈ lw_all := lw_g (lw_at lw_m10 48 rfl) rfl
theorem q2306 : (Jvm.Cond.code ({ cls := "java/util/PriorityQueue", name := "add", desc := "(Ljava/lang/Object;)Z" } : Jvm.MethodName) prog_68_method_13_code (2 : Nat) (Option.some Jvm.ClassFile.FieldType.boolean)) ∈ lw_all := lw_g (lw_at lw_m10 49 rfl) rfl
theorem q2307 : (Jvm.Cond.methodLink "java/util/PriorityQueue" (89 : Nat) ({ cls := "java/util/PriorityQueue", name := "offer", desc := "(Ljava/lang/Object;)Z" } : Jvm.MethodName)) ∈ lw_all := lw_g (lw_at lw_m10 50 rfl) rfl
theorem q2308 : (Jvm.Cond.instanceMethod ({ cls := "java/util/PriorityQueue", name := "offer", desc := "(Ljava/lang/Object;)Z" } : Jvm.MethodName)) ∈ lw_all := lw_g (lw_at lw_m10 51 rfl) rfl
theorem q2309 : (Jvm.Cond.selects "java/util/PriorityQueue" ({ cls := "java/util/PriorityQueue", name := "offer", desc := "(Ljava/lang/Object;)Z" } : Jvm.MethodName) ({ cls := "java/util/PriorityQueue", name := "offer", desc := "(Ljava/lang/Object;)Z" } : Jvm.MethodName)) ∈ lw_all := lw_g (lw_at lw_m10 52 rfl) rfl
theorem q2310 : (Jvm.Cond.code ({ cls := "java/util/PriorityQueue", name := "offer", desc := "(Ljava/lang/Object;)Z" } : Jvm.MethodName) prog_68_method_14_code (3 : Nat) (Option.some Jvm.ClassFile.FieldType.boolean)) ∈ lw_all := lw_g (lw_at lw_m10 53 rfl) rfl
theorem q2311 : (Jvm.Cond.methodLink "java/util/PriorityQueue" (96 : Nat) ({ cls := "java/util/PriorityQueue", name := "grow", desc := "(I)V" } : Jvm.MethodName)) ∈ lw_all := lw_g (lw_at lw_m10 54 rfl) rfl
theorem q2312 : (Jvm.Cond.privateMethod ({ cls := "java/util/PriorityQueue", name := "grow", desc := "(I)V" } : Jvm.MethodName)) ∈ lw_tbl := lw_at lw_m10 55 rfl
theorem q2313 : (Jvm.Cond.instanceMethod ({ cls := "java/util/PriorityQueue", name := "grow", desc := "(I)V" } : Jvm.MethodName)) ∈ lw_all := lw_g (lw_at lw_m10 56 rfl) rfl
theorem q2314 : (Jvm.Cond.code ({ cls := "java/util/PriorityQueue", name := "grow", desc := "(I)V" } : Jvm.MethodName) prog_68_method_12_code (4 : Nat) (Option.none : Option Jvm.ClassFile.FieldType)) ∈ lw_all := lw_g (lw_at lw_m10 57 rfl) rfl
theorem q2315 : (Jvm.Cond.methodLink "java/util/PriorityQueue" (80 : Nat) ({ cls := "jdk/internal/util/ArraysSupport", name := "newLength", desc := "(III)I" } : Jvm.MethodName)) ∈ lw_all := lw_g (lw_at lw_m10 58 rfl) rfl
theorem q2316 : (Jvm.Cond.methodLink "java/util/PriorityQueue" (86 : Nat) ({ cls := "java/util/Arrays", name := "copyOf", desc := "([Ljava/lang/Object;I)[Ljava/lang/Object;" } : Jvm.MethodName)) ∈ lw_all := lw_g (lw_at lw_m10 59 rfl) rfl
theorem q2317 : (Jvm.Cond.methodLink "java/util/PriorityQueue" (100 : Nat) ({ cls := "java/util/PriorityQueue", name := "siftUp", desc := "(ILjava/lang/Object;)V" } : Jvm.MethodName)) ∈ lw_all := lw_g (lw_at lw_m10 60 rfl) rfl
theorem q2318 : (Jvm.Cond.privateMethod ({ cls := "java/util/PriorityQueue", name := "siftUp", desc := "(ILjava/lang/Object;)V" } : Jvm.MethodName)) ∈ lw_tbl := lw_at lw_m10 61 rfl
theorem q2319 : (Jvm.Cond.instanceMethod ({ cls := "java/util/PriorityQueue", name := "siftUp", desc := "(ILjava/lang/Object;)V" } : Jvm.MethodName)) ∈ lw_all := lw_g (lw_at lw_m10 62 rfl) rfl
theorem q2320 : (Jvm.Cond.code ({ cls := "java/util/PriorityQueue", name := "siftUp", desc := "(ILjava/lang/Object;)V" } : Jvm.MethodName) prog_68_method_27_code (3 : Nat) (Option.none : Option Jvm.ClassFile.FieldType)) ∈ lw_all := lw_g (lw_at lw_m10 63 rfl) rfl
theorem q2321 : (Jvm.Cond.methodLink "java/util/PriorityQueue" (136 : Nat) ({ cls := "java/util/PriorityQueue", name := "siftUpUsingComparator", desc := "(ILjava/lang/Object;[Ljava/lang/Object;Ljava/util/Comparator;)V" } : Jvm.MethodName)) ∈ lw_all := lw_g (lw_at lw_m10 64 rfl) rfl
theorem q2322 : (Jvm.Cond.static ({ cls := "java/util/PriorityQueue", name := "siftUpUsingComparator", desc := "(ILjava/lang/Object;[Ljava/lang/Object;Ljava/util/Comparator;)V" } : Jvm.MethodName)) ∈ lw_all := lw_g (lw_at lw_m10 65 rfl) rfl
theorem q2323 : (Jvm.Cond.code ({ cls := "java/util/PriorityQueue", name := "siftUpUsingComparator", desc := "(ILjava/lang/Object;[Ljava/lang/Object;Ljava/util/Comparator;)V" } : Jvm.MethodName) prog_68_method_29_code (6 : Nat) (Option.none : Option Jvm.ClassFile.FieldType)) ∈ lw_all := lw_g (lw_at lw_m10 66 rfl) rfl
theorem q2324 : (Jvm.Cond.interfaceEntry "java/util/PriorityQueue" (149 : Nat)) ∈ lw_tbl := lw_at lw_m10 67 rfl
theorem q2325 : (Jvm.Cond.methodLink "java/util/PriorityQueue" (149 : Nat) ({ cls := "java/util/Comparator", name := "compare", desc := "(Ljava/lang/Object;Ljava/lang/Object;)I" } : Jvm.MethodName)) ∈ lw_all := lw_g (lw_at lw_m10 68 rfl) rfl
theorem q2326 : (Jvm.Cond.methodLink "java/util/PriorityQueue" (140 : Nat) ({ cls := "java/util/PriorityQueue", name := "siftUpComparable", desc := "(ILjava/lang/Object;[Ljava/lang/Object;)V" } : Jvm.MethodName)) ∈ lw_all := lw_g (lw_at lw_m10 69 rfl) rfl
theorem q2327 : (Jvm.Cond.static ({ cls := "java/util/PriorityQueue", name := "siftUpComparable", desc := "(ILjava/lang/Object;[Ljava/lang/Object;)V" } : Jvm.MethodName)) ∈ lw_all := lw_g (lw_at lw_m10 70 rfl) rfl
theorem q2328 : (Jvm.Cond.code ({ cls := "java/util/PriorityQueue", name := "siftUpComparable", desc := "(ILjava/lang/Object;[Ljava/lang/Object;)V" } : Jvm.MethodName) prog_68_method_28_code (6 : Nat) (Option.none : Option Jvm.ClassFile.FieldType)) ∈ lw_all := lw_g (lw_at lw_m10 71 rfl) rfl
theorem q2329 : (Jvm.Cond.classLink "java/util/PriorityQueue" (144 : Nat) "java/lang/Comparable") ∈ lw_all := lw_g (lw_at lw_m10 72 rfl) rfl
theorem q2330 : (Jvm.Cond.interfaceEntry "java/util/PriorityQueue" (146 : Nat)) ∈ lw_tbl := lw_at lw_m10 73 rfl
theorem q2331 : (Jvm.Cond.methodLink "java/util/PriorityQueue" (146 : Nat) ({ cls := "java/lang/Comparable", name := "compareTo", desc := "(Ljava/lang/Object;)I" } : Jvm.MethodName)) ∈ lw_all := lw_g (lw_at lw_m10 74 rfl) rfl
theorem q2337 : (Jvm.Cond.instanceMethod ({ cls := "java/util/PriorityQueue", name := "poll", desc := "()Ljava/lang/Object;" } : Jvm.MethodName)) ∈ lw_all := lw_g (lw_at lw_m10 80 rfl) rfl
theorem q2338 : (Jvm.Cond.selects "java/util/PriorityQueue" ({ cls := "java/util/PriorityQueue", name := "poll", desc := "()Ljava/lang/Object;" } : Jvm.MethodName) ({ cls := "java/util/PriorityQueue", name := "poll", desc := "()Ljava/lang/Object;" } : Jvm.MethodName)) ∈ lw_all := lw_g (lw_at lw_m10 81 rfl) rfl
theorem q2339 : (Jvm.Cond.code ({ cls := "java/util/PriorityQueue", name := "poll", desc := "()Ljava/lang/Object;" } : Jvm.MethodName) prog_68_method_25_code (6 : Nat) (Option.some (Jvm.ClassFile.FieldType.object "java/lang/Object"))) ∈ lw_all := lw_g (lw_at lw_m10 82 rfl) rfl
theorem q2340 : (Jvm.Cond.methodLink "java/util/PriorityQueue" (125 : Nat) ({ cls := "java/util/PriorityQueue", name := "siftDownComparable", desc := "(ILjava/lang/Object;[Ljava/lang/Object;I)V" } : Jvm.MethodName)) ∈ lw_all := lw_g (lw_at lw_m10 83 rfl) rfl
theorem q2341 : (Jvm.Cond.static ({ cls := "java/util/PriorityQueue", name := "siftDownComparable", desc := "(ILjava/lang/Object;[Ljava/lang/Object;I)V" } : Jvm.MethodName)) ∈ lw_all := lw_g (lw_at lw_m10 84 rfl) rfl
theorem q2342 : (Jvm.Cond.code ({ cls := "java/util/PriorityQueue", name := "siftDownComparable", desc := "(ILjava/lang/Object;[Ljava/lang/Object;I)V" } : Jvm.MethodName) prog_68_method_31_code (9 : Nat) (Option.none : Option Jvm.ClassFile.FieldType)) ∈ lw_all := lw_g (lw_at lw_m10 85 rfl) rfl
theorem q2343 : (Jvm.Cond.methodLink "java/util/PriorityQueue" (129 : Nat) ({ cls := "java/util/PriorityQueue", name := "siftDownUsingComparator", desc := "(ILjava/lang/Object;[Ljava/lang/Object;ILjava/util/Comparator;)V" } : Jvm.MethodName)) ∈ lw_all := lw_g (lw_at lw_m10 86 rfl) rfl
theorem q2344 : (Jvm.Cond.static ({ cls := "java/util/PriorityQueue", name := "siftDownUsingComparator", desc := "(ILjava/lang/Object;[Ljava/lang/Object;ILjava/util/Comparator;)V" } : Jvm.MethodName)) ∈ lw_all := lw_g (lw_at lw_m10 87 rfl) rfl
theorem q2345 : (Jvm.Cond.code ({ cls := "java/util/PriorityQueue", name := "siftDownUsingComparator", desc := "(ILjava/lang/Object;[Ljava/lang/Object;ILjava/util/Comparator;)V" } : Jvm.MethodName) prog_68_method_32_code (9 : Nat) (Option.none : Option Jvm.ClassFile.FieldType)) ∈ lw_all := lw_g (lw_at lw_m10 88 rfl) rfl
theorem q3201 : (Jvm.Cond.castable "java/util/PriorityQueue" "java/lang/Object") ∈ lw_tbl := lw_at lw_m13 224 rfl
theorem in_J43 : ∀ w ∈ wsJ430, w ∈ lw_all := lw_in wsJ430 [2286, 2288, 2290, 2292] (by decide +kernel) (by decide +kernel)
/-! java/lang/Object -/
set_option maxRecDepth 100000
def RJ45 : String := "java/lang/Object"
abbrev cJ45_init : ByteArray := object_method_1_code
def yJ45_init : MethodName := ⟨RJ45, "<init>", "()V"⟩
theorem dJ45_init_0 : decode cJ45_init 0 = .ok (.return_, 1) := by decide +kernel
theorem q163 : (Jvm.Cond.instanceMethod ({ cls := "java/lang/Object", name := "<init>", desc := "()V" } : Jvm.MethodName)) ∈ lw_all := lw_g (lw_at lw_m1 66 rfl) rfl
theorem q164 : (Jvm.Cond.code ({ cls := "java/lang/Object", name := "<init>", desc := "()V" } : Jvm.MethodName) object_method_1_code (1 : Nat) (Option.none : Option Jvm.ClassFile.FieldType)) ∈ lw_all := lw_g (lw_at lw_m1 67 rfl) rfl
theorem q914 : (Jvm.Cond.declares ({ cls := "java/lang/Object", name := "hashCode", desc := "()I" } : Jvm.MethodName)) ∈ lw_tbl := lw_at lw_m4 97 rfl
theorem q916 : (Jvm.Cond.instanceMethod ({ cls := "java/lang/Object", name := "hashCode", desc := "()I" } : Jvm.MethodName)) ∈ lw_all := lw_g (lw_at lw_m4 99 rfl) rfl
theorem q917 : (Jvm.Cond.sameMethod "java/lang/Object" "java/lang/Object" "hashCode" "()I") ∈ lw_all := lw_g (lw_at lw_m4 100 rfl) rfl
theorem q1005 : (Jvm.Cond.native ({ cls := "java/lang/Object", name := "hashCode", desc := "()I" } : Jvm.MethodName)) ∈ lw_all := lw_g (lw_at lw_m4 188 rfl) rfl
theorem q1101 : (Jvm.Cond.instanceMethod ({ cls := "java/lang/Object", name := "getClass", desc := "()Ljava/lang/Class;" } : Jvm.MethodName)) ∈ lw_all := lw_g (lw_at lw_m5 44 rfl) rfl
theorem q1102 : (Jvm.Cond.sameMethod "java/lang/Object" "java/lang/Object" "getClass" "()Ljava/lang/Class;") ∈ lw_all := lw_g (lw_at lw_m5 45 rfl) rfl
theorem q1137 : (Jvm.Cond.native ({ cls := "java/lang/Object", name := "getClass", desc := "()Ljava/lang/Class;" } : Jvm.MethodName)) ∈ lw_all := lw_g (lw_at lw_m5 80 rfl) rfl
theorem q1389 : (Jvm.Cond.declares ({ cls := "java/lang/Object", name := "equals", desc := "(Ljava/lang/Object;)Z" } : Jvm.MethodName)) ∈ lw_tbl := lw_at lw_m6 92 rfl
theorem q1391 : (Jvm.Cond.instanceMethod ({ cls := "java/lang/Object", name := "equals", desc := "(Ljava/lang/Object;)Z" } : Jvm.MethodName)) ∈ lw_all := lw_g (lw_at lw_m6 94 rfl) rfl
theorem q1392 : (Jvm.Cond.sameMethod "java/lang/Object" "java/lang/Object" "equals" "(Ljava/lang/Object;)Z") ∈ lw_all := lw_g (lw_at lw_m6 95 rfl) rfl
theorem q1422 : (Jvm.Cond.code ({ cls := "java/lang/Object", name := "equals", desc := "(Ljava/lang/Object;)Z" } : Jvm.MethodName) object_method_4_code (2 : Nat) (Option.some Jvm.ClassFile.FieldType.boolean)) ∈ lw_all := lw_g (lw_at lw_m6 125 rfl) rfl
theorem q1618 : (Jvm.Cond.native ({ cls := "java/lang/Object", name := "clone", desc := "()Ljava/lang/Object;" } : Jvm.MethodName)) ∈ lw_all := lw_g (lw_at lw_m7 81 rfl) rfl
theorem q1619 : (Jvm.Cond.instanceMethod ({ cls := "java/lang/Object", name := "clone", desc := "()Ljava/lang/Object;" } : Jvm.MethodName)) ∈ lw_all := lw_g (lw_at lw_m7 82 rfl) rfl
theorem q3167 : (Jvm.Cond.initialized "java/lang/Object") ∈ lw_all := lw_g (lw_at lw_m13 190 rfl) rfl
theorem q3210 : (Jvm.Cond.declares ({ cls := "java/lang/Object", name := "getClass", desc := "()Ljava/lang/Class;" } : Jvm.MethodName)) ∈ lw_tbl := lw_at lw_m13 233 rfl
set_option maxRecDepth 100000
theorem q111 : (Jvm.Cond.initialized "java/lang/StringUTF16") ∈ lw_all := lw_g (lw_at lw_m1 14 rfl) rfl
theorem q340 : (Jvm.Cond.static ({ cls := "java/lang/StringUTF16", name := "newBytesFor", desc := "(I)[B" } : Jvm.MethodName)) ∈ lw_all := lw_g (lw_at lw_m2 3 rfl) rfl
theorem q341 : (Jvm.Cond.code ({ cls := "java/lang/StringUTF16", name := "newBytesFor", desc := "(I)[B" } : Jvm.MethodName) prog_31_method_2_code (1 : Nat) (Option.some (Jvm.ClassFile.FieldType.array Jvm.ClassFile.FieldType.byte))) ∈ lw_all := lw_g (lw_at lw_m2 4 rfl) rfl
theorem q342 : (Jvm.Cond.methodLink "java/lang/StringUTF16" (11 : Nat) ({ cls := "java/lang/StringUTF16", name := "newBytesLength", desc := "(I)I" } : Jvm.MethodName)) ∈ lw_all := lw_g (lw_at lw_m2 5 rfl) rfl
theorem q343 : (Jvm.Cond.static ({ cls := "java/lang/StringUTF16", name := "newBytesLength", desc := "(I)I" } : Jvm.MethodName)) ∈ lw_all := lw_g (lw_at lw_m2 6 rfl) rfl
theorem q344 : (Jvm.Cond.code ({ cls := "java/lang/StringUTF16", name := "newBytesLength", desc := "(I)I" } : Jvm.MethodName) prog_31_method_3_code (1 : Nat) (Option.some Jvm.ClassFile.FieldType.int)) ∈ lw_all := lw_g (lw_at lw_m2 7 rfl) rfl
theorem q345 : (Jvm.Cond.constant "java/lang/StringUTF16" (20 : Nat) (1073741823 : Int32)) ∈ lw_all := lw_g (lw_at lw_m2 8 rfl) rfl
theorem q971 : (Jvm.Cond.static ({ cls := "java/lang/StringUTF16", name := "getChar", desc := "([BI)C" } : Jvm.MethodName)) ∈ lw_all := lw_g (lw_at lw_m4 154 rfl) rfl
theorem q972 : (Jvm.Cond.code ({ cls := "java/lang/StringUTF16", name := "getChar", desc := "([BI)C" } : Jvm.MethodName) prog_31_method_5_code (2 : Nat) (Option.some Jvm.ClassFile.FieldType.char)) ∈ lw_all := lw_g (lw_at lw_m4 155 rfl) rfl
theorem q973 : (Jvm.Cond.fieldLink "java/lang/StringUTF16" (44 : Nat) "java/lang/StringUTF16" "$assertionsDisabled" "Z") ∈ lw_all := lw_g (lw_at lw_m4 156 rfl) rfl
theorem q974 : (Jvm.Cond.laysStatic "java/lang/StringUTF16" "$assertionsDisabled" "Z") ∈ lw_tbl := lw_at lw_m4 157 rfl
theorem q975 : (Jvm.Cond.methodLink "java/lang/StringUTF16" (48 : Nat) ({ cls := "java/lang/StringUTF16", name := "length", desc := "([B)I" } : Jvm.MethodName)) ∈ lw_all := lw_g (lw_at lw_m4 158 rfl) rfl
theorem q976 : (Jvm.Cond.static ({ cls := "java/lang/StringUTF16", name := "length", desc := "([B)I" } : Jvm.MethodName)) ∈ lw_all := lw_g (lw_at lw_m4 159 rfl) rfl
theorem q977 : (Jvm.Cond.code ({ cls := "java/lang/StringUTF16", name := "length", desc := "([B)I" } : Jvm.MethodName) prog_31_method_6_code (1 : Nat) (Option.some Jvm.ClassFile.FieldType.int)) ∈ lw_all := lw_g (lw_at lw_m4 160 rfl) rfl
theorem q978 : (Jvm.Cond.fieldLink "java/lang/StringUTF16" (59 : Nat) "java/lang/StringUTF16" "HI_BYTE_SHIFT" "I") ∈ lw_all := lw_g (lw_at lw_m4 161 rfl) rfl
theorem q979 : (Jvm.Cond.laysStatic "java/lang/StringUTF16" "HI_BYTE_SHIFT" "I") ∈ lw_tbl := lw_at lw_m4 162 rfl
theorem q980 : (Jvm.Cond.fieldLink "java/lang/StringUTF16" (63 : Nat) "java/lang/StringUTF16" "LO_BYTE_SHIFT" "I") ∈ lw_all := lw_g (lw_at lw_m4 163 rfl) rfl
theorem q981 : (Jvm.Cond.laysStatic "java/lang/StringUTF16" "LO_BYTE_SHIFT" "I") ∈ lw_tbl := lw_at lw_m4 164 rfl
theorem q998 : (Jvm.Cond.static ({ cls := "java/lang/StringUTF16", name := "hashCode", desc := "([B)I" } : Jvm.MethodName)) ∈ lw_all := lw_g (lw_at lw_m4 181 rfl) rfl
theorem q999 : (Jvm.Cond.code ({ cls := "java/lang/StringUTF16", name := "hashCode", desc := "([B)I" } : Jvm.MethodName) prog_31_method_39_code (1 : Nat) (Option.some Jvm.ClassFile.FieldType.int)) ∈ lw_all := lw_g (lw_at lw_m4 182 rfl) rfl
theorem q1000 : (Jvm.Cond.methodLink "java/lang/StringUTF16" (71 : Nat) ({ cls := "java/lang/StringUTF16", name := "getChar", desc := "([BI)C" } : Jvm.MethodName)) ∈ lw_all := lw_g (lw_at lw_m4 183 rfl) rfl
theorem q1001 : (Jvm.Cond.methodLink "java/lang/StringUTF16" (220 : Nat) ({ cls := "jdk/internal/util/ArraysSupport", name := "vectorizedHashCode", desc := "(Ljava/lang/Object;IIII)I" } : Jvm.MethodName)) ∈ lw_all := lw_g (lw_at lw_m4 184 rfl) rfl
theorem q1301 : (Jvm.Cond.static ({ cls := "java/lang/StringUTF16", name := "compareTo", desc := "([B[B)I" } : Jvm.MethodName)) ∈ lw_all := lw_g (lw_at lw_m6 4 rfl) rfl
theorem q1302 : (Jvm.Cond.code ({ cls := "java/lang/StringUTF16", name := "compareTo", desc := "([B[B)I" } : Jvm.MethodName) prog_31_method_29_code (4 : Nat) (Option.some Jvm.ClassFile.FieldType.int)) ∈ lw_all := lw_g (lw_at lw_m6 5 rfl) rfl
theorem q1303 : (Jvm.Cond.methodLink "java/lang/StringUTF16" (176 : Nat) ({ cls := "java/lang/StringUTF16", name := "compareValues", desc := "([B[BII)I" } : Jvm.MethodName)) ∈ lw_all := lw_g (lw_at lw_m6 6 rfl) rfl
theorem q1304 : (Jvm.Cond.static ({ cls := "java/lang/StringUTF16", name := "compareValues", desc := "([B[BII)I" } : Jvm.MethodName)) ∈ lw_all := lw_g (lw_at lw_m6 7 rfl) rfl
theorem q1305 : (Jvm.Cond.code ({ cls := "java/lang/StringUTF16", name := "compareValues", desc := "([B[BII)I" } : Jvm.MethodName) prog_31_method_31_code (8 : Nat) (Option.some Jvm.ClassFile.FieldType.int)) ∈ lw_all := lw_g (lw_at lw_m6 8 rfl) rfl
theorem q1306 : (Jvm.Cond.methodLink "java/lang/StringUTF16" (183 : Nat) ({ cls := "java/lang/Math", name := "min", desc := "(II)I" } : Jvm.MethodName)) ∈ lw_all := lw_g (lw_at lw_m6 9 rfl) rfl
theorem q1319 : (Jvm.Cond.static ({ cls := "java/lang/StringUTF16", name := "compareToLatin1", desc := "([B[B)I" } : Jvm.MethodName)) ∈ lw_all := lw_g (lw_at lw_m6 22 rfl) rfl
theorem q1320 : (Jvm.Cond.code ({ cls := "java/lang/StringUTF16", name := "compareToLatin1", desc := "([B[B)I" } : Jvm.MethodName) prog_31_method_32_code (2 : Nat) (Option.some Jvm.ClassFile.FieldType.int)) ∈ lw_all := lw_g (lw_at lw_m6 23 rfl) rfl
theorem q1321 : (Jvm.Cond.methodLink "java/lang/StringUTF16" (189 : Nat) ({ cls := "java/lang/StringLatin1", name := "compareToUTF16", desc := "([B[B)I" } : Jvm.MethodName)) ∈ lw_all := lw_g (lw_at lw_m6 24 rfl) rfl
theorem q1343 : (Jvm.Cond.static ({ cls := "java/lang/StringUTF16", name := "compareTo", desc := "([B[BII)I" } : Jvm.MethodName)) ∈ lw_all := lw_g (lw_at lw_m6 46 rfl) rfl
theorem q1344 : (Jvm.Cond.code ({ cls := "java/lang/StringUTF16", name := "compareTo", desc := "([B[BII)I" } : Jvm.MethodName) prog_31_method_30_code (4 : Nat) (Option.some Jvm.ClassFile.FieldType.int)) ∈ lw_all := lw_g (lw_at lw_m6 47 rfl) rfl
theorem q1345 : (Jvm.Cond.methodLink "java/lang/StringUTF16" (180 : Nat) ({ cls := "java/lang/StringUTF16", name := "checkOffset", desc := "(I[B)V" } : Jvm.MethodName)) ∈ lw_all := lw_g (lw_at lw_m6 48 rfl) rfl
theorem q1346 : (Jvm.Cond.static ({ cls := "java/lang/StringUTF16", name := "checkOffset", desc := "(I[B)V" } : Jvm.MethodName)) ∈ lw_all := lw_g (lw_at lw_m6 49 rfl) rfl
theorem q1347 : (Jvm.Cond.code ({ cls := "java/lang/StringUTF16", name := "checkOffset", desc := "(I[B)V" } : Jvm.MethodName) prog_31_method_92_code (2 : Nat) (Option.none : Option Jvm.ClassFile.FieldType)) ∈ lw_all := lw_g (lw_at lw_m6 50 rfl) rfl
theorem q1348 : (Jvm.Cond.methodLink "java/lang/StringUTF16" (417 : Nat) ({ cls := "java/lang/String", name := "checkOffset", desc := "(II)V" } : Jvm.MethodName)) ∈ lw_all := lw_g (lw_at lw_m6 51 rfl) rfl
theorem q1361 : (Jvm.Cond.static ({ cls := "java/lang/StringUTF16", name := "compareToLatin1", desc := "([B[BII)I" } : Jvm.MethodName)) ∈ lw_all := lw_g (lw_at lw_m6 64 rfl) rfl
theorem q1362 : (Jvm.Cond.code ({ cls := "java/lang/StringUTF16", name := "compareToLatin1", desc := "([B[BII)I" } : Jvm.MethodName) prog_31_method_33_code (4 : Nat) (Option.some Jvm.ClassFile.FieldType.int)) ∈ lw_all := lw_g (lw_at lw_m6 65 rfl) rfl
theorem q1363 : (Jvm.Cond.methodLink "java/lang/StringUTF16" (193 : Nat) ({ cls := "java/lang/StringLatin1", name := "compareToUTF16", desc := "([B[BII)I" } : Jvm.MethodName)) ∈ lw_all := lw_g (lw_at lw_m6 66 rfl) rfl
theorem q2583 : (Jvm.Cond.static ({ cls := "java/lang/StringUTF16", name := "inflate", desc := "([BI[BII)V" } : Jvm.MethodName)) ∈ lw_all := lw_g (lw_at lw_m11 86 rfl) rfl
theorem q2584 : (Jvm.Cond.code ({ cls := "java/lang/StringUTF16", name := "inflate", desc := "([BI[BII)V" } : Jvm.MethodName) prog_31_method_86_code (6 : Nat) (Option.none : Option Jvm.ClassFile.FieldType)) ∈ lw_all := lw_g (lw_at lw_m11 87 rfl) rfl
theorem q2585 : (Jvm.Cond.methodLink "java/lang/StringUTF16" (173 : Nat) ({ cls := "java/lang/StringUTF16", name := "checkBoundsOffCount", desc := "(II[B)V" } : Jvm.MethodName)) ∈ lw_all := lw_g (lw_at lw_m11 88 rfl) rfl
theorem q2586 : (Jvm.Cond.static ({ cls := "java/lang/StringUTF16", name := "checkBoundsOffCount", desc := "(II[B)V" } : Jvm.MethodName)) ∈ lw_all := lw_g (lw_at lw_m11 89 rfl) rfl
theorem q2587 : (Jvm.Cond.code ({ cls := "java/lang/StringUTF16", name := "checkBoundsOffCount", desc := "(II[B)V" } : Jvm.MethodName) prog_31_method_94_code (3 : Nat) (Option.none : Option Jvm.ClassFile.FieldType)) ∈ lw_all := lw_g (lw_at lw_m11 90 rfl) rfl
theorem q2588 : (Jvm.Cond.methodLink "java/lang/StringUTF16" (419 : Nat) ({ cls := "java/lang/String", name := "checkBoundsOffCount", desc := "(III)I" } : Jvm.MethodName)) ∈ lw_all := lw_g (lw_at lw_m11 91 rfl) rfl
theorem q2594 : (Jvm.Cond.methodLink "java/lang/StringUTF16" (111 : Nat) ({ cls := "java/lang/StringUTF16", name := "putChar", desc := "([BII)V" } : Jvm.MethodName)) ∈ lw_all := lw_g (lw_at lw_m11 97 rfl) rfl
theorem q2595 : (Jvm.Cond.static ({ cls := "java/lang/StringUTF16", name := "putChar", desc := "([BII)V" } : Jvm.MethodName)) ∈ lw_all := lw_g (lw_at lw_m11 98 rfl) rfl
theorem q2596 : (Jvm.Cond.code ({ cls := "java/lang/StringUTF16", name := "putChar", desc := "([BII)V" } : Jvm.MethodName) prog_31_method_4_code (3 : Nat) (Option.none : Option Jvm.ClassFile.FieldType)) ∈ lw_all := lw_g (lw_at lw_m11 99 rfl) rfl
theorem q2598 : (Jvm.Cond.static ({ cls := "java/lang/StringUTF16", name := "putCharSB", desc := "([BII)V" } : Jvm.MethodName)) ∈ lw_all := lw_g (lw_at lw_m11 101 rfl) rfl
theorem q2599 : (Jvm.Cond.code ({ cls := "java/lang/StringUTF16", name := "putCharSB", desc := "([BII)V" } : Jvm.MethodName) prog_31_method_71_code (3 : Nat) (Option.none : Option Jvm.ClassFile.FieldType)) ∈ lw_all := lw_g (lw_at lw_m11 102 rfl) rfl
theorem q2600 : (Jvm.Cond.methodLink "java/lang/StringUTF16" (67 : Nat) ({ cls := "java/lang/StringUTF16", name := "checkIndex", desc := "(I[B)V" } : Jvm.MethodName)) ∈ lw_all := lw_g (lw_at lw_m11 103 rfl) rfl
theorem q2601 : (Jvm.Cond.static ({ cls := "java/lang/StringUTF16", name := "checkIndex", desc := "(I[B)V" } : Jvm.MethodName)) ∈ lw_all := lw_g (lw_at lw_m11 104 rfl) rfl
theorem q2602 : (Jvm.Cond.code ({ cls := "java/lang/StringUTF16", name := "checkIndex", desc := "(I[B)V" } : Jvm.MethodName) prog_31_method_91_code (2 : Nat) (Option.none : Option Jvm.ClassFile.FieldType)) ∈ lw_all := lw_g (lw_at lw_m11 105 rfl) rfl
theorem q2603 : (Jvm.Cond.methodLink "java/lang/StringUTF16" (414 : Nat) ({ cls := "java/lang/String", name := "checkIndex", desc := "(II)V" } : Jvm.MethodName)) ∈ lw_all := lw_g (lw_at lw_m11 106 rfl) rfl
theorem q2628 : (Jvm.Cond.static ({ cls := "java/lang/StringUTF16", name := "fillNull", desc := "([BII)V" } : Jvm.MethodName)) ∈ lw_all := lw_g (lw_at lw_m11 131 rfl) rfl
theorem q2629 : (Jvm.Cond.code ({ cls := "java/lang/StringUTF16", name := "fillNull", desc := "([BII)V" } : Jvm.MethodName) prog_31_method_70_code (3 : Nat) (Option.none : Option Jvm.ClassFile.FieldType)) ∈ lw_all := lw_g (lw_at lw_m11 132 rfl) rfl
theorem q2630 : (Jvm.Cond.methodLink "java/lang/StringUTF16" (380 : Nat) ({ cls := "java/util/Arrays", name := "fill", desc := "([BIIB)V" } : Jvm.MethodName)) ∈ lw_all := lw_g (lw_at lw_m11 133 rfl) rfl
theorem q2709 : (Jvm.Cond.static ({ cls := "java/lang/StringUTF16", name := "indexOf", desc := "([BIII)I" } : Jvm.MethodName)) ∈ lw_all := lw_g (lw_at lw_m11 212 rfl) rfl
theorem q2710 : (Jvm.Cond.code ({ cls := "java/lang/StringUTF16", name := "indexOf", desc := "([BIII)I" } : Jvm.MethodName) prog_31_method_40_code (4 : Nat) (Option.some Jvm.ClassFile.FieldType.int)) ∈ lw_all := lw_g (lw_at lw_m11 213 rfl) rfl
theorem q2711 : (Jvm.Cond.methodLink "java/lang/StringUTF16" (224 : Nat) ({ cls := "java/lang/Math", name := "max", desc := "(II)I" } : Jvm.MethodName)) ∈ lw_all := lw_g (lw_at lw_m11 214 rfl) rfl
theorem q2712 : (Jvm.Cond.constant "java/lang/StringUTF16" (227 : Nat) (65536 : Int32)) ∈ lw_all := lw_g (lw_at lw_m11 215 rfl) rfl
theorem q2713 : (Jvm.Cond.methodLink "java/lang/StringUTF16" (228 : Nat) ({ cls := "java/lang/StringUTF16", name := "indexOfChar", desc := "([BIII)I" } : Jvm.MethodName)) ∈ lw_all := lw_g (lw_at lw_m11 216 rfl) rfl
theorem q2714 : (Jvm.Cond.static ({ cls := "java/lang/StringUTF16", name := "indexOfChar", desc := "([BIII)I" } : Jvm.MethodName)) ∈ lw_all := lw_g (lw_at lw_m11 217 rfl) rfl
theorem q2715 : (Jvm.Cond.code ({ cls := "java/lang/StringUTF16", name := "indexOfChar", desc := "([BIII)I" } : Jvm.MethodName) prog_31_method_47_code (4 : Nat) (Option.some Jvm.ClassFile.FieldType.int)) ∈ lw_all := lw_g (lw_at lw_m11 218 rfl) rfl
theorem q2716 : (Jvm.Cond.methodLink "java/lang/StringUTF16" (96 : Nat) ({ cls := "java/lang/StringUTF16", name := "checkBoundsBeginEnd", desc := "(II[B)V" } : Jvm.MethodName)) ∈ lw_all := lw_g (lw_at lw_m11 219 rfl) rfl
theorem q2717 : (Jvm.Cond.static ({ cls := "java/lang/StringUTF16", name := "checkBoundsBeginEnd", desc := "(II[B)V" } : Jvm.MethodName)) ∈ lw_all := lw_g (lw_at lw_m11 220 rfl) rfl
theorem q2718 : (Jvm.Cond.code ({ cls := "java/lang/StringUTF16", name := "checkBoundsBeginEnd", desc := "(II[B)V" } : Jvm.MethodName) prog_31_method_93_code (3 : Nat) (Option.none : Option Jvm.ClassFile.FieldType)) ∈ lw_all := lw_g (lw_at lw_m11 221 rfl) rfl
theorem q2719 : (Jvm.Cond.methodLink "java/lang/StringUTF16" (241 : Nat) ({ cls := "java/lang/String", name := "checkBoundsBeginEnd", desc := "(III)V" } : Jvm.MethodName)) ∈ lw_all := lw_g (lw_at lw_m11 222 rfl) rfl
theorem q2722 : (Jvm.Cond.methodLink "java/lang/StringUTF16" (244 : Nat) ({ cls := "java/lang/StringUTF16", name := "indexOfCharUnsafe", desc := "([BIII)I" } : Jvm.MethodName)) ∈ lw_all := lw_g (lw_at lw_m11 225 rfl) rfl
theorem q2723 : (Jvm.Cond.static ({ cls := "java/lang/StringUTF16", name := "indexOfCharUnsafe", desc := "([BIII)I" } : Jvm.MethodName)) ∈ lw_all := lw_g (lw_at lw_m11 226 rfl) rfl
theorem q2724 : (Jvm.Cond.code ({ cls := "java/lang/StringUTF16", name := "indexOfCharUnsafe", desc := "([BIII)I" } : Jvm.MethodName) prog_31_method_48_code (5 : Nat) (Option.some Jvm.ClassFile.FieldType.int)) ∈ lw_all := lw_g (lw_at lw_m11 227 rfl) rfl
theorem q2725 : (Jvm.Cond.methodLink "java/lang/StringUTF16" (232 : Nat) ({ cls := "java/lang/StringUTF16", name := "indexOfSupplementary", desc := "([BIII)I" } : Jvm.MethodName)) ∈ lw_all := lw_g (lw_at lw_m11 228 rfl) rfl
theorem q2726 : (Jvm.Cond.static ({ cls := "java/lang/StringUTF16", name := "indexOfSupplementary", desc := "([BIII)I" } : Jvm.MethodName)) ∈ lw_all := lw_g (lw_at lw_m11 229 rfl) rfl
theorem q2727 : (Jvm.Cond.code ({ cls := "java/lang/StringUTF16", name := "indexOfSupplementary", desc := "([BIII)I" } : Jvm.MethodName) prog_31_method_49_code (7 : Nat) (Option.some Jvm.ClassFile.FieldType.int)) ∈ lw_all := lw_g (lw_at lw_m11 230 rfl) rfl
theorem q2728 : (Jvm.Cond.methodLink "java/lang/StringUTF16" (164 : Nat) ({ cls := "java/lang/Character", name := "isValidCodePoint", desc := "(I)Z" } : Jvm.MethodName)) ∈ lw_all := lw_g (lw_at lw_m11 231 rfl) rfl
theorem q2731 : (Jvm.Cond.methodLink "java/lang/StringUTF16" (157 : Nat) ({ cls := "java/lang/Character", name := "highSurrogate", desc := "(I)C" } : Jvm.MethodName)) ∈ lw_all := lw_g (lw_at lw_m11 234 rfl) rfl
theorem q2735 : (Jvm.Cond.methodLink "java/lang/StringUTF16" (161 : Nat) ({ cls := "java/lang/Character", name := "lowSurrogate", desc := "(I)C" } : Jvm.MethodName)) ∈ lw_all := lw_g (lw_at lw_m11 238 rfl) rfl
theorem q123 : (Jvm.Cond.initialized "java/util/ArrayDeque$DeqIterator") ∈ lw_all := lw_g (lw_at lw_m1 26 rfl) rfl
theorem q317 : (Jvm.Cond.fieldLink "java/util/ArrayDeque$DeqIterator" (35 : Nat) "java/util/ArrayDeque" "elements" "[Ljava/lang/Object;") ∈ lw_all := lw_g (lw_at lw_m1 220 rfl) rfl
theorem q318 : (Jvm.Cond.fieldLink "java/util/ArrayDeque$DeqIterator" (26 : Nat) "java/util/ArrayDeque" "head" "I") ∈ lw_all := lw_g (lw_at lw_m1 221 rfl) rfl
theorem q469 : (Jvm.Cond.castable "java/util/ArrayDeque$DeqIterator" "java/util/Iterator") ∈ lw_tbl := lw_at lw_m2 132 rfl
theorem q470 : (Jvm.Cond.selects "java/util/ArrayDeque$DeqIterator" ({ cls := "java/util/Iterator", name := "hasNext", desc := "()Z" } : Jvm.MethodName) ({ cls := "java/util/ArrayDeque$DeqIterator", name := "hasNext", desc := "()Z" } : Jvm.MethodName)) ∈ lw_all := lw_g (lw_at lw_m2 133 rfl) rfl
theorem q471 : (Jvm.Cond.unhidden "java/util/ArrayDeque$DeqIterator" "hasNext" "()Z") ∈ lw_tbl := lw_at lw_m2 134 rfl
theorem q472 : (Jvm.Cond.instanceMethod ({ cls := "java/util/ArrayDeque$DeqIterator", name := "hasNext", desc := "()Z" } : Jvm.MethodName)) ∈ lw_all := lw_g (lw_at lw_m2 135 rfl) rfl
theorem q473 : (Jvm.Cond.publicMethod ({ cls := "java/util/ArrayDeque$DeqIterator", name := "hasNext", desc := "()Z" } : Jvm.MethodName)) ∈ lw_tbl := lw_at lw_m2 136 rfl
theorem q474 : (Jvm.Cond.code ({ cls := "java/util/ArrayDeque$DeqIterator", name := "hasNext", desc := "()Z" } : Jvm.MethodName) prog_42_method_2_code (1 : Nat) (Option.some Jvm.ClassFile.FieldType.boolean)) ∈ lw_all := lw_g (lw_at lw_m2 137 rfl) rfl
theorem q513 : (Jvm.Cond.selects "java/util/ArrayDeque$DeqIterator" ({ cls := "java/util/Iterator", name := "next", desc := "()Ljava/lang/Object;" } : Jvm.MethodName) ({ cls := "java/util/ArrayDeque$DeqIterator", name := "next", desc := "()Ljava/lang/Object;" } : Jvm.MethodName)) ∈ lw_all := lw_g (lw_at lw_m2 176 rfl) rfl
theorem q514 : (Jvm.Cond.unhidden "java/util/ArrayDeque$DeqIterator" "next" "()Ljava/lang/Object;") ∈ lw_tbl := lw_at lw_m2 177 rfl
theorem q515 : (Jvm.Cond.instanceMethod ({ cls := "java/util/ArrayDeque$DeqIterator", name := "next", desc := "()Ljava/lang/Object;" } : Jvm.MethodName)) ∈ lw_all := lw_g (lw_at lw_m2 178 rfl) rfl
theorem q516 : (Jvm.Cond.publicMethod ({ cls := "java/util/ArrayDeque$DeqIterator", name := "next", desc := "()Ljava/lang/Object;" } : Jvm.MethodName)) ∈ lw_tbl := lw_at lw_m2 179 rfl
theorem q517 : (Jvm.Cond.code ({ cls := "java/util/ArrayDeque$DeqIterator", name := "next", desc := "()Ljava/lang/Object;" } : Jvm.MethodName) prog_42_method_3_code (3 : Nat) (Option.some (Jvm.ClassFile.FieldType.object "java/lang/Object"))) ∈ lw_all := lw_g (lw_at lw_m2 180 rfl) rfl
theorem q518 : (Jvm.Cond.methodLink "java/util/ArrayDeque$DeqIterator" (39 : Nat) ({ cls := "java/util/ArrayDeque", name := "nonNullElementAt", desc := "([Ljava/lang/Object;I)Ljava/lang/Object;" } : Jvm.MethodName)) ∈ lw_all := lw_g (lw_at lw_m2 181 rfl) rfl
theorem q521 : (Jvm.Cond.methodLink "java/util/ArrayDeque$DeqIterator" (43 : Nat) ({ cls := "java/util/ArrayDeque", name := "inc", desc := "(II)I" } : Jvm.MethodName)) ∈ lw_all := lw_g (lw_at lw_m2 184 rfl) rfl
theorem q698 : (Jvm.Cond.instantiable "java/util/ArrayDeque$DeqIterator" (4 : Nat)) ∈ lw_all := lw_g (lw_at lw_m3 121 rfl) rfl
theorem q700 : (Jvm.Cond.instanceMethod ({ cls := "java/util/ArrayDeque$DeqIterator", name := "<init>", desc := "(Ljava/util/ArrayDeque;)V" } : Jvm.MethodName)) ∈ lw_all := lw_g (lw_at lw_m3 123 rfl) rfl
theorem q701 : (Jvm.Cond.code ({ cls := "java/util/ArrayDeque$DeqIterator", name := "<init>", desc := "(Ljava/util/ArrayDeque;)V" } : Jvm.MethodName) prog_42_method_1_code (2 : Nat) (Option.none : Option Jvm.ClassFile.FieldType)) ∈ lw_all := lw_g (lw_at lw_m3 124 rfl) rfl
theorem q702 : (Jvm.Cond.methodLink "java/util/ArrayDeque$DeqIterator" (7 : Nat) ({ cls := "java/lang/Object", name := "<init>", desc := "()V" } : Jvm.MethodName)) ∈ lw_all := lw_g (lw_at lw_m3 125 rfl) rfl
theorem q703 : (Jvm.Cond.methodLink "java/util/ArrayDeque$DeqIterator" (13 : Nat) ({ cls := "java/util/ArrayDeque", name := "size", desc := "()I" } : Jvm.MethodName)) ∈ lw_all := lw_g (lw_at lw_m3 126 rfl) rfl
theorem q710 : (Jvm.Cond.fieldLink "java/util/ArrayDeque$DeqIterator" (29 : Nat) "java/util/ArrayDeque$DeqIterator" "cursor" "I") ∈ lw_all := lw_g (lw_at lw_m3 133 rfl) rfl
theorem q711 : (Jvm.Cond.fieldLink "java/util/ArrayDeque$DeqIterator" (19 : Nat) "java/util/ArrayDeque$DeqIterator" "remaining" "I") ∈ lw_all := lw_g (lw_at lw_m3 134 rfl) rfl
theorem q712 : (Jvm.Cond.fieldLink "java/util/ArrayDeque$DeqIterator" (23 : Nat) "java/util/ArrayDeque$DeqIterator" "lastRet" "I") ∈ lw_all := lw_g (lw_at lw_m3 135 rfl) rfl
theorem q713 : (Jvm.Cond.fieldLink "java/util/ArrayDeque$DeqIterator" (1 : Nat) "java/util/ArrayDeque$DeqIterator" "this$0" "Ljava/util/ArrayDeque;") ∈ lw_all := lw_g (lw_at lw_m3 136 rfl) rfl
theorem q714 : (Jvm.Cond.lays "java/util/ArrayDeque$DeqIterator" "java/util/ArrayDeque$DeqIterator" "cursor" "I") ∈ lw_all := lw_g (lw_at lw_m3 137 rfl) rfl
theorem q715 : (Jvm.Cond.soleField "java/util/ArrayDeque$DeqIterator" "cursor") ∈ lw_all := lw_g (lw_at lw_m3 138 rfl) rfl
theorem q716 : (Jvm.Cond.lays "java/util/ArrayDeque$DeqIterator" "java/util/ArrayDeque$DeqIterator" "remaining" "I") ∈ lw_all := lw_g (lw_at lw_m3 139 rfl) rfl
theorem q717 : (Jvm.Cond.soleField "java/util/ArrayDeque$DeqIterator" "remaining") ∈ lw_all := lw_g (lw_at lw_m3 140 rfl) rfl
theorem q718 : (Jvm.Cond.lays "java/util/ArrayDeque$DeqIterator" "java/util/ArrayDeque$DeqIterator" "lastRet" "I") ∈ lw_all := lw_g (lw_at lw_m3 141 rfl) rfl
theorem q719 : (Jvm.Cond.soleField "java/util/ArrayDeque$DeqIterator" "lastRet") ∈ lw_all := lw_g (lw_at lw_m3 142 rfl) rfl
theorem q720 : (Jvm.Cond.laysFinal "java/util/ArrayDeque$DeqIterator" "java/util/ArrayDeque$DeqIterator" "this$0" "Ljava/util/ArrayDeque;") ∈ lw_all := lw_g (lw_at lw_m3 143 rfl) rfl
theorem q721 : (Jvm.Cond.soleField "java/util/ArrayDeque$DeqIterator" "this$0") ∈ lw_all := lw_g (lw_at lw_m3 144 rfl) rfl
theorem q722 : (Jvm.Cond.superclass "java/util/ArrayDeque$DeqIterator" "java/lang/Object") ∈ lw_all := lw_g (lw_at lw_m3 145 rfl) rfl
theorem q1118 : (Jvm.Cond.selects "java/util/ArrayDeque$DeqIterator" ({ cls := "java/lang/Object", name := "getClass", desc := "()Ljava/lang/Class;" } : Jvm.MethodName) ({ cls := "java/lang/Object", name := "getClass", desc := "()Ljava/lang/Class;" } : Jvm.MethodName)) ∈ lw_all := lw_g (lw_at lw_m5 61 rfl) rfl
theorem q3184 : (Jvm.Cond.castable "java/util/ArrayDeque$DeqIterator" "java/lang/Object") ∈ lw_tbl := lw_at lw_m13 207 rfl
theorem q124 : (Jvm.Cond.initialized "java/util/HashMap$HashIterator") ∈ lw_all := lw_g (lw_at lw_m1 27 rfl) rfl
theorem q235 : (Jvm.Cond.fieldLink "java/util/HashMap$HashIterator" (22 : Nat) "java/util/HashMap" "table" "[Ljava/util/HashMap$Node;") ∈ lw_all := lw_g (lw_at lw_m1 138 rfl) rfl
theorem q237 : (Jvm.Cond.fieldLink "java/util/HashMap$HashIterator" (36 : Nat) "java/util/HashMap" "size" "I") ∈ lw_all := lw_g (lw_at lw_m1 140 rfl) rfl
theorem q239 : (Jvm.Cond.fieldLink "java/util/HashMap$HashIterator" (13 : Nat) "java/util/HashMap" "modCount" "I") ∈ lw_all := lw_g (lw_at lw_m1 142 rfl) rfl
theorem q484 : (Jvm.Cond.instanceMethod ({ cls := "java/util/HashMap$HashIterator", name := "hasNext", desc := "()Z" } : Jvm.MethodName)) ∈ lw_all := lw_g (lw_at lw_m2 147 rfl) rfl
theorem q485 : (Jvm.Cond.publicMethod ({ cls := "java/util/HashMap$HashIterator", name := "hasNext", desc := "()Z" } : Jvm.MethodName)) ∈ lw_tbl := lw_at lw_m2 148 rfl
theorem q486 : (Jvm.Cond.code ({ cls := "java/util/HashMap$HashIterator", name := "hasNext", desc := "()Z" } : Jvm.MethodName) prog_50_method_2_code (1 : Nat) (Option.some Jvm.ClassFile.FieldType.boolean)) ∈ lw_all := lw_g (lw_at lw_m2 149 rfl) rfl
theorem q540 : (Jvm.Cond.declares ({ cls := "java/util/HashMap$HashIterator", name := "nextNode", desc := "()Ljava/util/HashMap$Node;" } : Jvm.MethodName)) ∈ lw_tbl := lw_at lw_m2 203 rfl
theorem q542 : (Jvm.Cond.instanceMethod ({ cls := "java/util/HashMap$HashIterator", name := "nextNode", desc := "()Ljava/util/HashMap$Node;" } : Jvm.MethodName)) ∈ lw_all := lw_g (lw_at lw_m2 205 rfl) rfl
theorem q543 : (Jvm.Cond.code ({ cls := "java/util/HashMap$HashIterator", name := "nextNode", desc := "()Ljava/util/HashMap$Node;" } : Jvm.MethodName) prog_50_method_3_code (3 : Nat) (Option.some (Jvm.ClassFile.FieldType.object "java/util/HashMap$Node"))) ∈ lw_all := lw_g (lw_at lw_m2 206 rfl) rfl
theorem q739 : (Jvm.Cond.instanceMethod ({ cls := "java/util/HashMap$HashIterator", name := "<init>", desc := "(Ljava/util/HashMap;)V" } : Jvm.MethodName)) ∈ lw_all := lw_g (lw_at lw_m3 162 rfl) rfl
theorem q740 : (Jvm.Cond.code ({ cls := "java/util/HashMap$HashIterator", name := "<init>", desc := "(Ljava/util/HashMap;)V" } : Jvm.MethodName) prog_50_method_1_code (3 : Nat) (Option.none : Option Jvm.ClassFile.FieldType)) ∈ lw_all := lw_g (lw_at lw_m3 163 rfl) rfl
theorem q741 : (Jvm.Cond.methodLink "java/util/HashMap$HashIterator" (7 : Nat) ({ cls := "java/lang/Object", name := "<init>", desc := "()V" } : Jvm.MethodName)) ∈ lw_all := lw_g (lw_at lw_m3 164 rfl) rfl
theorem q742 : (Jvm.Cond.fieldLink "java/util/HashMap$HashIterator" (26 : Nat) "java/util/HashMap$HashIterator" "next" "Ljava/util/HashMap$Node;") ∈ lw_all := lw_g (lw_at lw_m3 165 rfl) rfl
theorem q743 : (Jvm.Cond.fieldLink "java/util/HashMap$HashIterator" (30 : Nat) "java/util/HashMap$HashIterator" "current" "Ljava/util/HashMap$Node;") ∈ lw_all := lw_g (lw_at lw_m3 166 rfl) rfl
theorem q744 : (Jvm.Cond.fieldLink "java/util/HashMap$HashIterator" (19 : Nat) "java/util/HashMap$HashIterator" "expectedModCount" "I") ∈ lw_all := lw_g (lw_at lw_m3 167 rfl) rfl
theorem q745 : (Jvm.Cond.fieldLink "java/util/HashMap$HashIterator" (33 : Nat) "java/util/HashMap$HashIterator" "index" "I") ∈ lw_all := lw_g (lw_at lw_m3 168 rfl) rfl
theorem q746 : (Jvm.Cond.fieldLink "java/util/HashMap$HashIterator" (1 : Nat) "java/util/HashMap$HashIterator" "this$0" "Ljava/util/HashMap;") ∈ lw_all := lw_g (lw_at lw_m3 169 rfl) rfl
theorem q748 : (Jvm.Cond.soleField "java/util/HashMap$HashIterator" "next") ∈ lw_all := lw_g (lw_at lw_m3 171 rfl) rfl
theorem q750 : (Jvm.Cond.soleField "java/util/HashMap$HashIterator" "current") ∈ lw_all := lw_g (lw_at lw_m3 173 rfl) rfl
theorem q752 : (Jvm.Cond.soleField "java/util/HashMap$HashIterator" "expectedModCount") ∈ lw_all := lw_g (lw_at lw_m3 175 rfl) rfl
theorem q754 : (Jvm.Cond.soleField "java/util/HashMap$HashIterator" "index") ∈ lw_all := lw_g (lw_at lw_m3 177 rfl) rfl
theorem q756 : (Jvm.Cond.soleField "java/util/HashMap$HashIterator" "this$0") ∈ lw_all := lw_g (lw_at lw_m3 179 rfl) rfl
theorem q1068 : (Jvm.Cond.fieldLink "java/util/HashMap$HashIterator" (45 : Nat) "java/util/HashMap$Node" "next" "Ljava/util/HashMap$Node;") ∈ lw_all := lw_g (lw_at lw_m5 11 rfl) rfl
theorem q125 : (Jvm.Cond.initialized "java/util/HashMap$KeyIterator") ∈ lw_all := lw_g (lw_at lw_m1 28 rfl) rfl
theorem q481 : (Jvm.Cond.castable "java/util/HashMap$KeyIterator" "java/util/Iterator") ∈ lw_tbl := lw_at lw_m2 144 rfl
theorem q482 : (Jvm.Cond.selects "java/util/HashMap$KeyIterator" ({ cls := "java/util/Iterator", name := "hasNext", desc := "()Z" } : Jvm.MethodName) ({ cls := "java/util/HashMap$HashIterator", name := "hasNext", desc := "()Z" } : Jvm.MethodName)) ∈ lw_all := lw_g (lw_at lw_m2 145 rfl) rfl
theorem q483 : (Jvm.Cond.unhidden "java/util/HashMap$KeyIterator" "hasNext" "()Z") ∈ lw_tbl := lw_at lw_m2 146 rfl
theorem q533 : (Jvm.Cond.selects "java/util/HashMap$KeyIterator" ({ cls := "java/util/Iterator", name := "next", desc := "()Ljava/lang/Object;" } : Jvm.MethodName) ({ cls := "java/util/HashMap$KeyIterator", name := "next", desc := "()Ljava/lang/Object;" } : Jvm.MethodName)) ∈ lw_all := lw_g (lw_at lw_m2 196 rfl) rfl
theorem q534 : (Jvm.Cond.unhidden "java/util/HashMap$KeyIterator" "next" "()Ljava/lang/Object;") ∈ lw_tbl := lw_at lw_m2 197 rfl
theorem q535 : (Jvm.Cond.instanceMethod ({ cls := "java/util/HashMap$KeyIterator", name := "next", desc := "()Ljava/lang/Object;" } : Jvm.MethodName)) ∈ lw_all := lw_g (lw_at lw_m2 198 rfl) rfl
theorem q536 : (Jvm.Cond.publicMethod ({ cls := "java/util/HashMap$KeyIterator", name := "next", desc := "()Ljava/lang/Object;" } : Jvm.MethodName)) ∈ lw_tbl := lw_at lw_m2 199 rfl
theorem q537 : (Jvm.Cond.code ({ cls := "java/util/HashMap$KeyIterator", name := "next", desc := "()Ljava/lang/Object;" } : Jvm.MethodName) prog_51_method_2_code (1 : Nat) (Option.some (Jvm.ClassFile.FieldType.object "java/lang/Object"))) ∈ lw_all := lw_g (lw_at lw_m2 200 rfl) rfl
theorem q538 : (Jvm.Cond.methodLink "java/util/HashMap$KeyIterator" (7 : Nat) ({ cls := "java/util/HashMap$KeyIterator", name := "nextNode", desc := "()Ljava/util/HashMap$Node;" } : Jvm.MethodName)) ∈ lw_all := lw_g (lw_at lw_m2 201 rfl) rfl
theorem q539 : (Jvm.Cond.sameMethod "java/util/HashMap$KeyIterator" "java/util/HashMap$HashIterator" "nextNode" "()Ljava/util/HashMap$Node;") ∈ lw_all := lw_g (lw_at lw_m2 202 rfl) rfl
theorem q541 : (Jvm.Cond.selects "java/util/HashMap$KeyIterator" ({ cls := "java/util/HashMap$KeyIterator", name := "nextNode", desc := "()Ljava/util/HashMap$Node;" } : Jvm.MethodName) ({ cls := "java/util/HashMap$HashIterator", name := "nextNode", desc := "()Ljava/util/HashMap$Node;" } : Jvm.MethodName)) ∈ lw_all := lw_g (lw_at lw_m2 204 rfl) rfl
theorem q734 : (Jvm.Cond.instantiable "java/util/HashMap$KeyIterator" (5 : Nat)) ∈ lw_all := lw_g (lw_at lw_m3 157 rfl) rfl
theorem q736 : (Jvm.Cond.instanceMethod ({ cls := "java/util/HashMap$KeyIterator", name := "<init>", desc := "(Ljava/util/HashMap;)V" } : Jvm.MethodName)) ∈ lw_all := lw_g (lw_at lw_m3 159 rfl) rfl
theorem q737 : (Jvm.Cond.code ({ cls := "java/util/HashMap$KeyIterator", name := "<init>", desc := "(Ljava/util/HashMap;)V" } : Jvm.MethodName) prog_51_method_1_code (2 : Nat) (Option.none : Option Jvm.ClassFile.FieldType)) ∈ lw_all := lw_g (lw_at lw_m3 160 rfl) rfl
theorem q738 : (Jvm.Cond.methodLink "java/util/HashMap$KeyIterator" (1 : Nat) ({ cls := "java/util/HashMap$HashIterator", name := "<init>", desc := "(Ljava/util/HashMap;)V" } : Jvm.MethodName)) ∈ lw_all := lw_g (lw_at lw_m3 161 rfl) rfl
theorem q747 : (Jvm.Cond.lays "java/util/HashMap$KeyIterator" "java/util/HashMap$HashIterator" "next" "Ljava/util/HashMap$Node;") ∈ lw_all := lw_g (lw_at lw_m3 170 rfl) rfl
theorem q749 : (Jvm.Cond.lays "java/util/HashMap$KeyIterator" "java/util/HashMap$HashIterator" "current" "Ljava/util/HashMap$Node;") ∈ lw_all := lw_g (lw_at lw_m3 172 rfl) rfl
theorem q751 : (Jvm.Cond.lays "java/util/HashMap$KeyIterator" "java/util/HashMap$HashIterator" "expectedModCount" "I") ∈ lw_all := lw_g (lw_at lw_m3 174 rfl) rfl
theorem q753 : (Jvm.Cond.lays "java/util/HashMap$KeyIterator" "java/util/HashMap$HashIterator" "index" "I") ∈ lw_all := lw_g (lw_at lw_m3 176 rfl) rfl
theorem q755 : (Jvm.Cond.laysFinal "java/util/HashMap$KeyIterator" "java/util/HashMap$HashIterator" "this$0" "Ljava/util/HashMap;") ∈ lw_all := lw_g (lw_at lw_m3 178 rfl) rfl
theorem q757 : (Jvm.Cond.superclass "java/util/HashMap$KeyIterator" "java/util/HashMap$HashIterator") ∈ lw_all := lw_g (lw_at lw_m3 180 rfl) rfl
theorem q1056 : (Jvm.Cond.fieldLink "java/util/HashMap$KeyIterator" (13 : Nat) "java/util/HashMap$Node" "key" "Ljava/lang/Object;") ∈ lw_all := lw_g (lw_at lw_m4 239 rfl) rfl
theorem q1121 : (Jvm.Cond.selects "java/util/HashMap$KeyIterator" ({ cls := "java/lang/Object", name := "getClass", desc := "()Ljava/lang/Class;" } : Jvm.MethodName) ({ cls := "java/lang/Object", name := "getClass", desc := "()Ljava/lang/Class;" } : Jvm.MethodName)) ∈ lw_all := lw_g (lw_at lw_m5 64 rfl) rfl
theorem q3187 : (Jvm.Cond.castable "java/util/HashMap$KeyIterator" "java/lang/Object") ∈ lw_tbl := lw_at lw_m13 210 rfl
theorem q128 : (Jvm.Cond.initialized "java/util/HashMap$KeySet") ∈ lw_all := lw_g (lw_at lw_m1 31 rfl) rfl
theorem q727 : (Jvm.Cond.castable "java/util/HashMap$KeySet" "java/util/Collection") ∈ lw_tbl := lw_at lw_m3 150 rfl
theorem q728 : (Jvm.Cond.selects "java/util/HashMap$KeySet" ({ cls := "java/util/Collection", name := "iterator", desc := "()Ljava/util/Iterator;" } : Jvm.MethodName) ({ cls := "java/util/HashMap$KeySet", name := "iterator", desc := "()Ljava/util/Iterator;" } : Jvm.MethodName)) ∈ lw_all := lw_g (lw_at lw_m3 151 rfl) rfl
theorem q729 : (Jvm.Cond.unhidden "java/util/HashMap$KeySet" "iterator" "()Ljava/util/Iterator;") ∈ lw_tbl := lw_at lw_m3 152 rfl
theorem q730 : (Jvm.Cond.instanceMethod ({ cls := "java/util/HashMap$KeySet", name := "iterator", desc := "()Ljava/util/Iterator;" } : Jvm.MethodName)) ∈ lw_all := lw_g (lw_at lw_m3 153 rfl) rfl
theorem q731 : (Jvm.Cond.publicMethod ({ cls := "java/util/HashMap$KeySet", name := "iterator", desc := "()Ljava/util/Iterator;" } : Jvm.MethodName)) ∈ lw_tbl := lw_at lw_m3 154 rfl
theorem q732 : (Jvm.Cond.code ({ cls := "java/util/HashMap$KeySet", name := "iterator", desc := "()Ljava/util/Iterator;" } : Jvm.MethodName) prog_52_method_4_code (1 : Nat) (Option.some (Jvm.ClassFile.FieldType.object "java/util/Iterator"))) ∈ lw_all := lw_g (lw_at lw_m3 155 rfl) rfl
theorem q733 : (Jvm.Cond.classLink "java/util/HashMap$KeySet" (22 : Nat) "java/util/HashMap$KeyIterator") ∈ lw_all := lw_g (lw_at lw_m3 156 rfl) rfl
theorem q735 : (Jvm.Cond.methodLink "java/util/HashMap$KeySet" (24 : Nat) ({ cls := "java/util/HashMap$KeyIterator", name := "<init>", desc := "(Ljava/util/HashMap;)V" } : Jvm.MethodName)) ∈ lw_all := lw_g (lw_at lw_m3 158 rfl) rfl
theorem q824 : (Jvm.Cond.castable "java/util/HashMap$KeySet" "java/util/Set") ∈ lw_tbl := lw_at lw_m4 7 rfl
theorem q825 : (Jvm.Cond.selects "java/util/HashMap$KeySet" ({ cls := "java/util/Set", name := "iterator", desc := "()Ljava/util/Iterator;" } : Jvm.MethodName) ({ cls := "java/util/HashMap$KeySet", name := "iterator", desc := "()Ljava/util/Iterator;" } : Jvm.MethodName)) ∈ lw_all := lw_g (lw_at lw_m4 8 rfl) rfl
theorem q1122 : (Jvm.Cond.selects "java/util/HashMap$KeySet" ({ cls := "java/lang/Object", name := "getClass", desc := "()Ljava/lang/Class;" } : Jvm.MethodName) ({ cls := "java/lang/Object", name := "getClass", desc := "()Ljava/lang/Class;" } : Jvm.MethodName)) ∈ lw_all := lw_g (lw_at lw_m5 65 rfl) rfl
theorem q1825 : (Jvm.Cond.selects "java/util/HashMap$KeySet" ({ cls := "java/util/Collection", name := "contains", desc := "(Ljava/lang/Object;)Z" } : Jvm.MethodName) ({ cls := "java/util/HashMap$KeySet", name := "contains", desc := "(Ljava/lang/Object;)Z" } : Jvm.MethodName)) ∈ lw_all := lw_g (lw_at lw_m8 48 rfl) rfl
theorem q1826 : (Jvm.Cond.unhidden "java/util/HashMap$KeySet" "contains" "(Ljava/lang/Object;)Z") ∈ lw_tbl := lw_at lw_m8 49 rfl
theorem q1827 : (Jvm.Cond.instanceMethod ({ cls := "java/util/HashMap$KeySet", name := "contains", desc := "(Ljava/lang/Object;)Z" } : Jvm.MethodName)) ∈ lw_all := lw_g (lw_at lw_m8 50 rfl) rfl
theorem q1828 : (Jvm.Cond.publicMethod ({ cls := "java/util/HashMap$KeySet", name := "contains", desc := "(Ljava/lang/Object;)Z" } : Jvm.MethodName)) ∈ lw_tbl := lw_at lw_m8 51 rfl
theorem q1829 : (Jvm.Cond.code ({ cls := "java/util/HashMap$KeySet", name := "contains", desc := "(Ljava/lang/Object;)Z" } : Jvm.MethodName) prog_52_method_5_code (2 : Nat) (Option.some Jvm.ClassFile.FieldType.boolean)) ∈ lw_all := lw_g (lw_at lw_m8 52 rfl) rfl
theorem q1830 : (Jvm.Cond.methodLink "java/util/HashMap$KeySet" (27 : Nat) ({ cls := "java/util/HashMap", name := "containsKey", desc := "(Ljava/lang/Object;)Z" } : Jvm.MethodName)) ∈ lw_all := lw_g (lw_at lw_m8 53 rfl) rfl
theorem q3185 : (Jvm.Cond.castable "java/util/HashMap$KeySet" "java/lang/Object") ∈ lw_tbl := lw_at lw_m13 208 rfl
theorem q3218 : (Jvm.Cond.fieldLink "java/util/HashMap$KeySet" (1 : Nat) "java/util/HashMap$KeySet" "this$0" "Ljava/util/HashMap;") ∈ lw_all := lw_g (lw_at lw_m14 1 rfl) rfl
theorem q130 : (Jvm.Cond.initialized "java/util/PriorityQueue$Itr") ∈ lw_all := lw_g (lw_at lw_m1 33 rfl) rfl
theorem q493 : (Jvm.Cond.castable "java/util/PriorityQueue$Itr" "java/util/Iterator") ∈ lw_tbl := lw_at lw_m2 156 rfl
theorem q494 : (Jvm.Cond.selects "java/util/PriorityQueue$Itr" ({ cls := "java/util/Iterator", name := "hasNext", desc := "()Z" } : Jvm.MethodName) ({ cls := "java/util/PriorityQueue$Itr", name := "hasNext", desc := "()Z" } : Jvm.MethodName)) ∈ lw_all := lw_g (lw_at lw_m2 157 rfl) rfl
theorem q495 : (Jvm.Cond.unhidden "java/util/PriorityQueue$Itr" "hasNext" "()Z") ∈ lw_tbl := lw_at lw_m2 158 rfl
theorem q496 : (Jvm.Cond.instanceMethod ({ cls := "java/util/PriorityQueue$Itr", name := "hasNext", desc := "()Z" } : Jvm.MethodName)) ∈ lw_all := lw_g (lw_at lw_m2 159 rfl) rfl
theorem q497 : (Jvm.Cond.publicMethod ({ cls := "java/util/PriorityQueue$Itr", name := "hasNext", desc := "()Z" } : Jvm.MethodName)) ∈ lw_tbl := lw_at lw_m2 160 rfl
theorem q498 : (Jvm.Cond.code ({ cls := "java/util/PriorityQueue$Itr", name := "hasNext", desc := "()Z" } : Jvm.MethodName) prog_69_method_2_code (1 : Nat) (Option.some Jvm.ClassFile.FieldType.boolean)) ∈ lw_all := lw_g (lw_at lw_m2 161 rfl) rfl
theorem q499 : (Jvm.Cond.methodLink "java/util/PriorityQueue$Itr" (35 : Nat) ({ cls := "java/util/ArrayDeque", name := "isEmpty", desc := "()Z" } : Jvm.MethodName)) ∈ lw_all := lw_g (lw_at lw_m2 162 rfl) rfl
theorem q562 : (Jvm.Cond.selects "java/util/PriorityQueue$Itr" ({ cls := "java/util/Iterator", name := "next", desc := "()Ljava/lang/Object;" } : Jvm.MethodName) ({ cls := "java/util/PriorityQueue$Itr", name := "next", desc := "()Ljava/lang/Object;" } : Jvm.MethodName)) ∈ lw_all := lw_g (lw_at lw_m2 225 rfl) rfl
theorem q563 : (Jvm.Cond.unhidden "java/util/PriorityQueue$Itr" "next" "()Ljava/lang/Object;") ∈ lw_tbl := lw_at lw_m2 226 rfl
theorem q564 : (Jvm.Cond.instanceMethod ({ cls := "java/util/PriorityQueue$Itr", name := "next", desc := "()Ljava/lang/Object;" } : Jvm.MethodName)) ∈ lw_all := lw_g (lw_at lw_m2 227 rfl) rfl
theorem q565 : (Jvm.Cond.publicMethod ({ cls := "java/util/PriorityQueue$Itr", name := "next", desc := "()Ljava/lang/Object;" } : Jvm.MethodName)) ∈ lw_tbl := lw_at lw_m2 228 rfl
theorem q566 : (Jvm.Cond.code ({ cls := "java/util/PriorityQueue$Itr", name := "next", desc := "()Ljava/lang/Object;" } : Jvm.MethodName) prog_69_method_3_code (1 : Nat) (Option.some (Jvm.ClassFile.FieldType.object "java/lang/Object"))) ∈ lw_all := lw_g (lw_at lw_m2 229 rfl) rfl
theorem q567 : (Jvm.Cond.methodLink "java/util/PriorityQueue$Itr" (48 : Nat) ({ cls := "java/util/ArrayDeque", name := "poll", desc := "()Ljava/lang/Object;" } : Jvm.MethodName)) ∈ lw_all := lw_g (lw_at lw_m2 230 rfl) rfl
theorem q837 : (Jvm.Cond.instantiable "java/util/PriorityQueue$Itr" (6 : Nat)) ∈ lw_all := lw_g (lw_at lw_m4 20 rfl) rfl
theorem q839 : (Jvm.Cond.instanceMethod ({ cls := "java/util/PriorityQueue$Itr", name := "<init>", desc := "(Ljava/util/PriorityQueue;)V" } : Jvm.MethodName)) ∈ lw_all := lw_g (lw_at lw_m4 22 rfl) rfl
theorem q840 : (Jvm.Cond.code ({ cls := "java/util/PriorityQueue$Itr", name := "<init>", desc := "(Ljava/util/PriorityQueue;)V" } : Jvm.MethodName) prog_69_method_1_code (2 : Nat) (Option.none : Option Jvm.ClassFile.FieldType)) ∈ lw_all := lw_g (lw_at lw_m4 23 rfl) rfl
theorem q841 : (Jvm.Cond.methodLink "java/util/PriorityQueue$Itr" (7 : Nat) ({ cls := "java/lang/Object", name := "<init>", desc := "()V" } : Jvm.MethodName)) ∈ lw_all := lw_g (lw_at lw_m4 24 rfl) rfl
theorem q842 : (Jvm.Cond.fieldLink "java/util/PriorityQueue$Itr" (25 : Nat) "java/util/PriorityQueue$Itr" "cursor" "I") ∈ lw_all := lw_g (lw_at lw_m4 25 rfl) rfl
theorem q843 : (Jvm.Cond.fieldLink "java/util/PriorityQueue$Itr" (13 : Nat) "java/util/PriorityQueue$Itr" "lastRet" "I") ∈ lw_all := lw_g (lw_at lw_m4 26 rfl) rfl
theorem q844 : (Jvm.Cond.fieldLink "java/util/PriorityQueue$Itr" (31 : Nat) "java/util/PriorityQueue$Itr" "forgetMeNot" "Ljava/util/ArrayDeque;") ∈ lw_all := lw_g (lw_at lw_m4 27 rfl) rfl
theorem q845 : (Jvm.Cond.fieldLink "java/util/PriorityQueue$Itr" (52 : Nat) "java/util/PriorityQueue$Itr" "lastRetElt" "Ljava/lang/Object;") ∈ lw_all := lw_g (lw_at lw_m4 28 rfl) rfl
theorem q846 : (Jvm.Cond.fieldLink "java/util/PriorityQueue$Itr" (22 : Nat) "java/util/PriorityQueue$Itr" "expectedModCount" "I") ∈ lw_all := lw_g (lw_at lw_m4 29 rfl) rfl
theorem q847 : (Jvm.Cond.fieldLink "java/util/PriorityQueue$Itr" (1 : Nat) "java/util/PriorityQueue$Itr" "this$0" "Ljava/util/PriorityQueue;") ∈ lw_all := lw_g (lw_at lw_m4 30 rfl) rfl
theorem q848 : (Jvm.Cond.lays "java/util/PriorityQueue$Itr" "java/util/PriorityQueue$Itr" "cursor" "I") ∈ lw_all := lw_g (lw_at lw_m4 31 rfl) rfl
theorem q849 : (Jvm.Cond.soleField "java/util/PriorityQueue$Itr" "cursor") ∈ lw_all := lw_g (lw_at lw_m4 32 rfl) rfl
theorem q850 : (Jvm.Cond.lays "java/util/PriorityQueue$Itr" "java/util/PriorityQueue$Itr" "lastRet" "I") ∈ lw_all := lw_g (lw_at lw_m4 33 rfl) rfl
theorem q851 : (Jvm.Cond.soleField "java/util/PriorityQueue$Itr" "lastRet") ∈ lw_all := lw_g (lw_at lw_m4 34 rfl) rfl
theorem q852 : (Jvm.Cond.lays "java/util/PriorityQueue$Itr" "java/util/PriorityQueue$Itr" "forgetMeNot" "Ljava/util/ArrayDeque;") ∈ lw_all := lw_g (lw_at lw_m4 35 rfl) rfl
theorem q853 : (Jvm.Cond.soleField "java/util/PriorityQueue$Itr" "forgetMeNot") ∈ lw_all := lw_g (lw_at lw_m4 36 rfl) rfl
theorem q854 : (Jvm.Cond.lays "java/util/PriorityQueue$Itr" "java/util/PriorityQueue$Itr" "lastRetElt" "Ljava/lang/Object;") ∈ lw_all := lw_g (lw_at lw_m4 37 rfl) rfl
theorem q855 : (Jvm.Cond.soleField "java/util/PriorityQueue$Itr" "lastRetElt") ∈ lw_all := lw_g (lw_at lw_m4 38 rfl) rfl
theorem q856 : (Jvm.Cond.lays "java/util/PriorityQueue$Itr" "java/util/PriorityQueue$Itr" "expectedModCount" "I") ∈ lw_all := lw_g (lw_at lw_m4 39 rfl) rfl
theorem q857 : (Jvm.Cond.soleField "java/util/PriorityQueue$Itr" "expectedModCount") ∈ lw_all := lw_g (lw_at lw_m4 40 rfl) rfl
theorem q858 : (Jvm.Cond.laysFinal "java/util/PriorityQueue$Itr" "java/util/PriorityQueue$Itr" "this$0" "Ljava/util/PriorityQueue;") ∈ lw_all := lw_g (lw_at lw_m4 41 rfl) rfl
theorem q859 : (Jvm.Cond.soleField "java/util/PriorityQueue$Itr" "this$0") ∈ lw_all := lw_g (lw_at lw_m4 42 rfl) rfl
theorem q860 : (Jvm.Cond.superclass "java/util/PriorityQueue$Itr" "java/lang/Object") ∈ lw_all := lw_g (lw_at lw_m4 43 rfl) rfl
theorem q1131 : (Jvm.Cond.selects "java/util/PriorityQueue$Itr" ({ cls := "java/lang/Object", name := "getClass", desc := "()Ljava/lang/Class;" } : Jvm.MethodName) ({ cls := "java/lang/Object", name := "getClass", desc := "()Ljava/lang/Class;" } : Jvm.MethodName)) ∈ lw_all := lw_g (lw_at lw_m5 74 rfl) rfl
theorem q2279 : (Jvm.Cond.fieldLink "java/util/PriorityQueue$Itr" (44 : Nat) "java/util/PriorityQueue" "queue" "[Ljava/lang/Object;") ∈ lw_all := lw_g (lw_at lw_m10 22 rfl) rfl
theorem q2281 : (Jvm.Cond.fieldLink "java/util/PriorityQueue$Itr" (28 : Nat) "java/util/PriorityQueue" "size" "I") ∈ lw_all := lw_g (lw_at lw_m10 24 rfl) rfl
theorem q2284 : (Jvm.Cond.fieldLink "java/util/PriorityQueue$Itr" (17 : Nat) "java/util/PriorityQueue" "modCount" "I") ∈ lw_all := lw_g (lw_at lw_m10 27 rfl) rfl
theorem q3202 : (Jvm.Cond.castable "java/util/PriorityQueue$Itr" "java/lang/Object") ∈ lw_tbl := lw_at lw_m13 225 rfl
theorem q138 : (Jvm.Cond.initialized "jdk/internal/misc/Unsafe") ∈ lw_all := lw_g (lw_at lw_m1 41 rfl) rfl
theorem q1004 : (Jvm.Cond.selects "jdk/internal/misc/Unsafe" ({ cls := "java/lang/Object", name := "hashCode", desc := "()I" } : Jvm.MethodName) ({ cls := "java/lang/Object", name := "hashCode", desc := "()I" } : Jvm.MethodName)) ∈ lw_all := lw_g (lw_at lw_m4 187 rfl) rfl
theorem q1136 : (Jvm.Cond.selects "jdk/internal/misc/Unsafe" ({ cls := "java/lang/Object", name := "getClass", desc := "()Ljava/lang/Class;" } : Jvm.MethodName) ({ cls := "java/lang/Object", name := "getClass", desc := "()Ljava/lang/Class;" } : Jvm.MethodName)) ∈ lw_all := lw_g (lw_at lw_m5 79 rfl) rfl
theorem q1200 : (Jvm.Cond.laysStatic "jdk/internal/misc/Unsafe" "ARRAY_BYTE_BASE_OFFSET" "I") ∈ lw_tbl := lw_at lw_m5 143 rfl
theorem q1211 : (Jvm.Cond.instanceMethod ({ cls := "jdk/internal/misc/Unsafe", name := "getLongUnaligned", desc := "(Ljava/lang/Object;J)J" } : Jvm.MethodName)) ∈ lw_all := lw_g (lw_at lw_m5 154 rfl) rfl
theorem q1212 : (Jvm.Cond.selects "jdk/internal/misc/Unsafe" ({ cls := "jdk/internal/misc/Unsafe", name := "getLongUnaligned", desc := "(Ljava/lang/Object;J)J" } : Jvm.MethodName) ({ cls := "jdk/internal/misc/Unsafe", name := "getLongUnaligned", desc := "(Ljava/lang/Object;J)J" } : Jvm.MethodName)) ∈ lw_all := lw_g (lw_at lw_m5 155 rfl) rfl
theorem q1213 : (Jvm.Cond.code ({ cls := "jdk/internal/misc/Unsafe", name := "getLongUnaligned", desc := "(Ljava/lang/Object;J)J" } : Jvm.MethodName) prog_83_method_334_code (4 : Nat) (Option.some Jvm.ClassFile.FieldType.long)) ∈ lw_all := lw_g (lw_at lw_m5 156 rfl) rfl
theorem q1214 : (Jvm.Cond.constantLong "jdk/internal/misc/Unsafe" (696 : Nat) (7 : Int64)) ∈ lw_all := lw_g (lw_at lw_m5 157 rfl) rfl
theorem q1215 : (Jvm.Cond.methodLink "jdk/internal/misc/Unsafe" (27 : Nat) ({ cls := "jdk/internal/misc/Unsafe", name := "getLong", desc := "(Ljava/lang/Object;J)J" } : Jvm.MethodName)) ∈ lw_all := lw_g (lw_at lw_m5 158 rfl) rfl
theorem q1216 : (Jvm.Cond.instanceMethod ({ cls := "jdk/internal/misc/Unsafe", name := "getLong", desc := "(Ljava/lang/Object;J)J" } : Jvm.MethodName)) ∈ lw_all := lw_g (lw_at lw_m5 159 rfl) rfl
theorem q1217 : (Jvm.Cond.selects "jdk/internal/misc/Unsafe" ({ cls := "jdk/internal/misc/Unsafe", name := "getLong", desc := "(Ljava/lang/Object;J)J" } : Jvm.MethodName) ({ cls := "jdk/internal/misc/Unsafe", name := "getLong", desc := "(Ljava/lang/Object;J)J" } : Jvm.MethodName)) ∈ lw_all := lw_g (lw_at lw_m5 160 rfl) rfl
theorem q1218 : (Jvm.Cond.native ({ cls := "jdk/internal/misc/Unsafe", name := "getLong", desc := "(Ljava/lang/Object;J)J" } : Jvm.MethodName)) ∈ lw_all := lw_g (lw_at lw_m5 161 rfl) rfl
theorem q1219 : (Jvm.Cond.constantLong "jdk/internal/misc/Unsafe" (349 : Nat) (3 : Int64)) ∈ lw_all := lw_g (lw_at lw_m5 162 rfl) rfl
theorem q1220 : (Jvm.Cond.methodLink "jdk/internal/misc/Unsafe" (17 : Nat) ({ cls := "jdk/internal/misc/Unsafe", name := "getInt", desc := "(Ljava/lang/Object;J)I" } : Jvm.MethodName)) ∈ lw_all := lw_g (lw_at lw_m5 163 rfl) rfl
theorem q1221 : (Jvm.Cond.instanceMethod ({ cls := "jdk/internal/misc/Unsafe", name := "getInt", desc := "(Ljava/lang/Object;J)I" } : Jvm.MethodName)) ∈ lw_all := lw_g (lw_at lw_m5 164 rfl) rfl
theorem q1222 : (Jvm.Cond.selects "jdk/internal/misc/Unsafe" ({ cls := "jdk/internal/misc/Unsafe", name := "getInt", desc := "(Ljava/lang/Object;J)I" } : Jvm.MethodName) ({ cls := "jdk/internal/misc/Unsafe", name := "getInt", desc := "(Ljava/lang/Object;J)I" } : Jvm.MethodName)) ∈ lw_all := lw_g (lw_at lw_m5 165 rfl) rfl
theorem q1223 : (Jvm.Cond.native ({ cls := "jdk/internal/misc/Unsafe", name := "getInt", desc := "(Ljava/lang/Object;J)I" } : Jvm.MethodName)) ∈ lw_all := lw_g (lw_at lw_m5 166 rfl) rfl
theorem q1224 : (Jvm.Cond.constantLong "jdk/internal/misc/Unsafe" (205 : Nat) (4 : Int64)) ∈ lw_all := lw_g (lw_at lw_m5 167 rfl) rfl
theorem q1225 : (Jvm.Cond.methodLink "jdk/internal/misc/Unsafe" (698 : Nat) ({ cls := "jdk/internal/misc/Unsafe", name := "makeLong", desc := "(II)J" } : Jvm.MethodName)) ∈ lw_all := lw_g (lw_at lw_m5 168 rfl) rfl
theorem q1226 : (Jvm.Cond.static ({ cls := "jdk/internal/misc/Unsafe", name := "makeLong", desc := "(II)J" } : Jvm.MethodName)) ∈ lw_all := lw_g (lw_at lw_m5 169 rfl) rfl
theorem q1227 : (Jvm.Cond.code ({ cls := "jdk/internal/misc/Unsafe", name := "makeLong", desc := "(II)J" } : Jvm.MethodName) prog_83_method_353_code (2 : Nat) (Option.some Jvm.ClassFile.FieldType.long)) ∈ lw_all := lw_g (lw_at lw_m5 170 rfl) rfl
theorem q1228 : (Jvm.Cond.methodLink "jdk/internal/misc/Unsafe" (791 : Nat) ({ cls := "jdk/internal/misc/Unsafe", name := "toUnsignedLong", desc := "(I)J" } : Jvm.MethodName)) ∈ lw_all := lw_g (lw_at lw_m5 171 rfl) rfl
theorem q1229 : (Jvm.Cond.static ({ cls := "jdk/internal/misc/Unsafe", name := "toUnsignedLong", desc := "(I)J" } : Jvm.MethodName)) ∈ lw_all := lw_g (lw_at lw_m5 172 rfl) rfl
theorem q1230 : (Jvm.Cond.code ({ cls := "jdk/internal/misc/Unsafe", name := "toUnsignedLong", desc := "(I)J" } : Jvm.MethodName) prog_83_method_370_code (1 : Nat) (Option.some Jvm.ClassFile.FieldType.long)) ∈ lw_all := lw_g (lw_at lw_m5 173 rfl) rfl
theorem q1231 : (Jvm.Cond.constantLong "jdk/internal/misc/Unsafe" (812 : Nat) (4294967295 : Int64)) ∈ lw_all := lw_g (lw_at lw_m5 174 rfl) rfl
theorem q1232 : (Jvm.Cond.methodLink "jdk/internal/misc/Unsafe" (784 : Nat) ({ cls := "jdk/internal/misc/Unsafe", name := "pickPos", desc := "(II)I" } : Jvm.MethodName)) ∈ lw_all := lw_g (lw_at lw_m5 175 rfl) rfl
theorem q1233 : (Jvm.Cond.static ({ cls := "jdk/internal/misc/Unsafe", name := "pickPos", desc := "(II)I" } : Jvm.MethodName)) ∈ lw_all := lw_g (lw_at lw_m5 176 rfl) rfl
theorem q1234 : (Jvm.Cond.code ({ cls := "jdk/internal/misc/Unsafe", name := "pickPos", desc := "(II)I" } : Jvm.MethodName) prog_83_method_350_code (2 : Nat) (Option.some Jvm.ClassFile.FieldType.int)) ∈ lw_all := lw_g (lw_at lw_m5 177 rfl) rfl
theorem q1235 : (Jvm.Cond.fieldLink "jdk/internal/misc/Unsafe" (351 : Nat) "jdk/internal/misc/UnsafeConstants" "BIG_ENDIAN" "Z") ∈ lw_all := lw_g (lw_at lw_m5 178 rfl) rfl
theorem q1237 : (Jvm.Cond.methodLink "jdk/internal/misc/Unsafe" (47 : Nat) ({ cls := "jdk/internal/misc/Unsafe", name := "getShort", desc := "(Ljava/lang/Object;J)S" } : Jvm.MethodName)) ∈ lw_all := lw_g (lw_at lw_m5 180 rfl) rfl
theorem q1238 : (Jvm.Cond.instanceMethod ({ cls := "jdk/internal/misc/Unsafe", name := "getShort", desc := "(Ljava/lang/Object;J)S" } : Jvm.MethodName)) ∈ lw_all := lw_g (lw_at lw_m5 181 rfl) rfl
theorem q1239 : (Jvm.Cond.selects "jdk/internal/misc/Unsafe" ({ cls := "jdk/internal/misc/Unsafe", name := "getShort", desc := "(Ljava/lang/Object;J)S" } : Jvm.MethodName) ({ cls := "jdk/internal/misc/Unsafe", name := "getShort", desc := "(Ljava/lang/Object;J)S" } : Jvm.MethodName)) ∈ lw_all := lw_g (lw_at lw_m5 182 rfl) rfl
theorem q1240 : (Jvm.Cond.native ({ cls := "jdk/internal/misc/Unsafe", name := "getShort", desc := "(Ljava/lang/Object;J)S" } : Jvm.MethodName)) ∈ lw_all := lw_g (lw_at lw_m5 183 rfl) rfl
theorem q1241 : (Jvm.Cond.constantLong "jdk/internal/misc/Unsafe" (203 : Nat) (2 : Int64)) ∈ lw_all := lw_g (lw_at lw_m5 184 rfl) rfl
theorem q1242 : (Jvm.Cond.constantLong "jdk/internal/misc/Unsafe" (702 : Nat) (6 : Int64)) ∈ lw_all := lw_g (lw_at lw_m5 185 rfl) rfl
theorem q1243 : (Jvm.Cond.methodLink "jdk/internal/misc/Unsafe" (704 : Nat) ({ cls := "jdk/internal/misc/Unsafe", name := "makeLong", desc := "(SSSS)J" } : Jvm.MethodName)) ∈ lw_all := lw_g (lw_at lw_m5 186 rfl) rfl
theorem q1244 : (Jvm.Cond.static ({ cls := "jdk/internal/misc/Unsafe", name := "makeLong", desc := "(SSSS)J" } : Jvm.MethodName)) ∈ lw_all := lw_g (lw_at lw_m5 187 rfl) rfl
theorem q1245 : (Jvm.Cond.code ({ cls := "jdk/internal/misc/Unsafe", name := "makeLong", desc := "(SSSS)J" } : Jvm.MethodName) prog_83_method_352_code (4 : Nat) (Option.some Jvm.ClassFile.FieldType.long)) ∈ lw_all := lw_g (lw_at lw_m5 188 rfl) rfl
theorem q1246 : (Jvm.Cond.methodLink "jdk/internal/misc/Unsafe" (788 : Nat) ({ cls := "jdk/internal/misc/Unsafe", name := "toUnsignedLong", desc := "(S)J" } : Jvm.MethodName)) ∈ lw_all := lw_g (lw_at lw_m5 189 rfl) rfl
theorem q1247 : (Jvm.Cond.static ({ cls := "jdk/internal/misc/Unsafe", name := "toUnsignedLong", desc := "(S)J" } : Jvm.MethodName)) ∈ lw_all := lw_g (lw_at lw_m5 190 rfl) rfl
theorem q1248 : (Jvm.Cond.code ({ cls := "jdk/internal/misc/Unsafe", name := "toUnsignedLong", desc := "(S)J" } : Jvm.MethodName) prog_83_method_369_code (1 : Nat) (Option.some Jvm.ClassFile.FieldType.long)) ∈ lw_all := lw_g (lw_at lw_m5 191 rfl) rfl
theorem q1249 : (Jvm.Cond.constantLong "jdk/internal/misc/Unsafe" (810 : Nat) (65535 : Int64)) ∈ lw_all := lw_g (lw_at lw_m5 192 rfl) rfl
theorem q1250 : (Jvm.Cond.methodLink "jdk/internal/misc/Unsafe" (39 : Nat) ({ cls := "jdk/internal/misc/Unsafe", name := "getByte", desc := "(Ljava/lang/Object;J)B" } : Jvm.MethodName)) ∈ lw_all := lw_g (lw_at lw_m5 193 rfl) rfl
theorem q1251 : (Jvm.Cond.instanceMethod ({ cls := "jdk/internal/misc/Unsafe", name := "getByte", desc := "(Ljava/lang/Object;J)B" } : Jvm.MethodName)) ∈ lw_all := lw_g (lw_at lw_m5 194 rfl) rfl
theorem q1252 : (Jvm.Cond.selects "jdk/internal/misc/Unsafe" ({ cls := "jdk/internal/misc/Unsafe", name := "getByte", desc := "(Ljava/lang/Object;J)B" } : Jvm.MethodName) ({ cls := "jdk/internal/misc/Unsafe", name := "getByte", desc := "(Ljava/lang/Object;J)B" } : Jvm.MethodName)) ∈ lw_all := lw_g (lw_at lw_m5 195 rfl) rfl
theorem q1253 : (Jvm.Cond.native ({ cls := "jdk/internal/misc/Unsafe", name := "getByte", desc := "(Ljava/lang/Object;J)B" } : Jvm.MethodName)) ∈ lw_all := lw_g (lw_at lw_m5 196 rfl) rfl
theorem q1254 : (Jvm.Cond.constantLong "jdk/internal/misc/Unsafe" (707 : Nat) (5 : Int64)) ∈ lw_all := lw_g (lw_at lw_m5 197 rfl) rfl
theorem q1255 : (Jvm.Cond.methodLink "jdk/internal/misc/Unsafe" (709 : Nat) ({ cls := "jdk/internal/misc/Unsafe", name := "makeLong", desc := "(BBBBBBBB)J" } : Jvm.MethodName)) ∈ lw_all := lw_g (lw_at lw_m5 198 rfl) rfl
theorem q1256 : (Jvm.Cond.static ({ cls := "jdk/internal/misc/Unsafe", name := "makeLong", desc := "(BBBBBBBB)J" } : Jvm.MethodName)) ∈ lw_all := lw_g (lw_at lw_m5 199 rfl) rfl
theorem q1257 : (Jvm.Cond.code ({ cls := "jdk/internal/misc/Unsafe", name := "makeLong", desc := "(BBBBBBBB)J" } : Jvm.MethodName) prog_83_method_351_code (8 : Nat) (Option.some Jvm.ClassFile.FieldType.long)) ∈ lw_all := lw_g (lw_at lw_m5 200 rfl) rfl
theorem q1258 : (Jvm.Cond.methodLink "jdk/internal/misc/Unsafe" (781 : Nat) ({ cls := "jdk/internal/misc/Unsafe", name := "toUnsignedLong", desc := "(B)J" } : Jvm.MethodName)) ∈ lw_all := lw_g (lw_at lw_m5 201 rfl) rfl
theorem q1259 : (Jvm.Cond.static ({ cls := "jdk/internal/misc/Unsafe", name := "toUnsignedLong", desc := "(B)J" } : Jvm.MethodName)) ∈ lw_all := lw_g (lw_at lw_m5 202 rfl) rfl
theorem q1260 : (Jvm.Cond.code ({ cls := "jdk/internal/misc/Unsafe", name := "toUnsignedLong", desc := "(B)J" } : Jvm.MethodName) prog_83_method_368_code (1 : Nat) (Option.some Jvm.ClassFile.FieldType.long)) ∈ lw_all := lw_g (lw_at lw_m5 203 rfl) rfl
theorem q1261 : (Jvm.Cond.constantLong "jdk/internal/misc/Unsafe" (808 : Nat) (255 : Int64)) ∈ lw_all := lw_g (lw_at lw_m5 204 rfl) rfl
theorem q1279 : (Jvm.Cond.instanceMethod ({ cls := "jdk/internal/misc/Unsafe", name := "getIntUnaligned", desc := "(Ljava/lang/Object;J)I" } : Jvm.MethodName)) ∈ lw_all := lw_g (lw_at lw_m5 222 rfl) rfl
theorem q1280 : (Jvm.Cond.selects "jdk/internal/misc/Unsafe" ({ cls := "jdk/internal/misc/Unsafe", name := "getIntUnaligned", desc := "(Ljava/lang/Object;J)I" } : Jvm.MethodName) ({ cls := "jdk/internal/misc/Unsafe", name := "getIntUnaligned", desc := "(Ljava/lang/Object;J)I" } : Jvm.MethodName)) ∈ lw_all := lw_g (lw_at lw_m5 223 rfl) rfl
theorem q1281 : (Jvm.Cond.code ({ cls := "jdk/internal/misc/Unsafe", name := "getIntUnaligned", desc := "(Ljava/lang/Object;J)I" } : Jvm.MethodName) prog_83_method_336_code (4 : Nat) (Option.some Jvm.ClassFile.FieldType.int)) ∈ lw_all := lw_g (lw_at lw_m5 224 rfl) rfl
theorem q1282 : (Jvm.Cond.methodLink "jdk/internal/misc/Unsafe" (719 : Nat) ({ cls := "jdk/internal/misc/Unsafe", name := "makeInt", desc := "(SS)I" } : Jvm.MethodName)) ∈ lw_all := lw_g (lw_at lw_m5 225 rfl) rfl
theorem q1283 : (Jvm.Cond.static ({ cls := "jdk/internal/misc/Unsafe", name := "makeInt", desc := "(SS)I" } : Jvm.MethodName)) ∈ lw_all := lw_g (lw_at lw_m5 226 rfl) rfl
theorem q1284 : (Jvm.Cond.code ({ cls := "jdk/internal/misc/Unsafe", name := "makeInt", desc := "(SS)I" } : Jvm.MethodName) prog_83_method_354_code (2 : Nat) (Option.some Jvm.ClassFile.FieldType.int)) ∈ lw_all := lw_g (lw_at lw_m5 227 rfl) rfl
theorem q1285 : (Jvm.Cond.methodLink "jdk/internal/misc/Unsafe" (792 : Nat) ({ cls := "jdk/internal/misc/Unsafe", name := "toUnsignedInt", desc := "(S)I" } : Jvm.MethodName)) ∈ lw_all := lw_g (lw_at lw_m5 228 rfl) rfl
theorem q1286 : (Jvm.Cond.static ({ cls := "jdk/internal/misc/Unsafe", name := "toUnsignedInt", desc := "(S)I" } : Jvm.MethodName)) ∈ lw_all := lw_g (lw_at lw_m5 229 rfl) rfl
theorem q1287 : (Jvm.Cond.code ({ cls := "jdk/internal/misc/Unsafe", name := "toUnsignedInt", desc := "(S)I" } : Jvm.MethodName) prog_83_method_367_code (1 : Nat) (Option.some Jvm.ClassFile.FieldType.int)) ∈ lw_all := lw_g (lw_at lw_m5 230 rfl) rfl
theorem q1288 : (Jvm.Cond.constant "jdk/internal/misc/Unsafe" (374 : Nat) (65535 : Int32)) ∈ lw_all := lw_g (lw_at lw_m5 231 rfl) rfl
theorem q1289 : (Jvm.Cond.methodLink "jdk/internal/misc/Unsafe" (723 : Nat) ({ cls := "jdk/internal/misc/Unsafe", name := "makeInt", desc := "(BBBB)I" } : Jvm.MethodName)) ∈ lw_all := lw_g (lw_at lw_m5 232 rfl) rfl
theorem q1290 : (Jvm.Cond.static ({ cls := "jdk/internal/misc/Unsafe", name := "makeInt", desc := "(BBBB)I" } : Jvm.MethodName)) ∈ lw_all := lw_g (lw_at lw_m5 233 rfl) rfl
theorem q1291 : (Jvm.Cond.code ({ cls := "jdk/internal/misc/Unsafe", name := "makeInt", desc := "(BBBB)I" } : Jvm.MethodName) prog_83_method_355_code (4 : Nat) (Option.some Jvm.ClassFile.FieldType.int)) ∈ lw_all := lw_g (lw_at lw_m5 234 rfl) rfl
theorem q1292 : (Jvm.Cond.methodLink "jdk/internal/misc/Unsafe" (796 : Nat) ({ cls := "jdk/internal/misc/Unsafe", name := "toUnsignedInt", desc := "(B)I" } : Jvm.MethodName)) ∈ lw_all := lw_g (lw_at lw_m5 235 rfl) rfl
theorem q1293 : (Jvm.Cond.static ({ cls := "jdk/internal/misc/Unsafe", name := "toUnsignedInt", desc := "(B)I" } : Jvm.MethodName)) ∈ lw_all := lw_g (lw_at lw_m5 236 rfl) rfl
theorem q1294 : (Jvm.Cond.code ({ cls := "jdk/internal/misc/Unsafe", name := "toUnsignedInt", desc := "(B)I" } : Jvm.MethodName) prog_83_method_366_code (1 : Nat) (Option.some Jvm.ClassFile.FieldType.int)) ∈ lw_all := lw_g (lw_at lw_m5 237 rfl) rfl
theorem q1421 : (Jvm.Cond.selects "jdk/internal/misc/Unsafe" ({ cls := "java/lang/Object", name := "equals", desc := "(Ljava/lang/Object;)Z" } : Jvm.MethodName) ({ cls := "java/lang/Object", name := "equals", desc := "(Ljava/lang/Object;)Z" } : Jvm.MethodName)) ∈ lw_all := lw_g (lw_at lw_m6 124 rfl) rfl
theorem q3190 : (Jvm.Cond.castable "jdk/internal/misc/Unsafe" "java/lang/Object") ∈ lw_tbl := lw_at lw_m13 213 rfl
theorem q140 : (Jvm.Cond.initialized "java/lang/Long") ∈ lw_all := lw_g (lw_at lw_m1 43 rfl) rfl
theorem q1265 : (Jvm.Cond.static ({ cls := "java/lang/Long", name := "numberOfLeadingZeros", desc := "(J)I" } : Jvm.MethodName)) ∈ lw_all := lw_g (lw_at lw_m5 208 rfl) rfl
theorem q1266 : (Jvm.Cond.code ({ cls := "java/lang/Long", name := "numberOfLeadingZeros", desc := "(J)I" } : Jvm.MethodName) prog_25_method_48_code (3 : Nat) (Option.some Jvm.ClassFile.FieldType.int)) ∈ lw_all := lw_g (lw_at lw_m5 209 rfl) rfl
theorem q1267 : (Jvm.Cond.methodLink "java/lang/Long" (308 : Nat) ({ cls := "java/lang/Integer", name := "numberOfLeadingZeros", desc := "(I)I" } : Jvm.MethodName)) ∈ lw_all := lw_g (lw_at lw_m5 210 rfl) rfl
theorem q1271 : (Jvm.Cond.static ({ cls := "java/lang/Long", name := "numberOfTrailingZeros", desc := "(J)I" } : Jvm.MethodName)) ∈ lw_all := lw_g (lw_at lw_m5 214 rfl) rfl
theorem q1272 : (Jvm.Cond.code ({ cls := "java/lang/Long", name := "numberOfTrailingZeros", desc := "(J)I" } : Jvm.MethodName) prog_25_method_49_code (3 : Nat) (Option.some Jvm.ClassFile.FieldType.int)) ∈ lw_all := lw_g (lw_at lw_m5 215 rfl) rfl
theorem q1273 : (Jvm.Cond.methodLink "java/lang/Long" (311 : Nat) ({ cls := "java/lang/Integer", name := "numberOfTrailingZeros", desc := "(I)I" } : Jvm.MethodName)) ∈ lw_all := lw_g (lw_at lw_m5 216 rfl) rfl
theorem q142 : (Jvm.Cond.initialized "java/util/HashMap$TreeNode") ∈ lw_all := lw_g (lw_at lw_m1 45 rfl) rfl
theorem q558 : (Jvm.Cond.selects "java/util/HashMap$TreeNode" ({ cls := "java/util/LinkedHashMap$Entry", name := "getKey", desc := "()Ljava/lang/Object;" } : Jvm.MethodName) ({ cls := "java/util/HashMap$Node", name := "getKey", desc := "()Ljava/lang/Object;" } : Jvm.MethodName)) ∈ lw_all := lw_g (lw_at lw_m2 221 rfl) rfl
theorem q1022 : (Jvm.Cond.instanceMethod ({ cls := "java/util/HashMap$TreeNode", name := "split", desc := "(Ljava/util/HashMap;[Ljava/util/HashMap$Node;II)V" } : Jvm.MethodName)) ∈ lw_all := lw_g (lw_at lw_m4 205 rfl) rfl
theorem q1023 : (Jvm.Cond.selects "java/util/HashMap$TreeNode" ({ cls := "java/util/HashMap$TreeNode", name := "split", desc := "(Ljava/util/HashMap;[Ljava/util/HashMap$Node;II)V" } : Jvm.MethodName) ({ cls := "java/util/HashMap$TreeNode", name := "split", desc := "(Ljava/util/HashMap;[Ljava/util/HashMap$Node;II)V" } : Jvm.MethodName)) ∈ lw_all := lw_g (lw_at lw_m4 206 rfl) rfl
theorem q1024 : (Jvm.Cond.code ({ cls := "java/util/HashMap$TreeNode", name := "split", desc := "(Ljava/util/HashMap;[Ljava/util/HashMap$Node;II)V" } : Jvm.MethodName) prog_54_method_11_code (14 : Nat) (Option.none : Option Jvm.ClassFile.FieldType)) ∈ lw_all := lw_g (lw_at lw_m4 207 rfl) rfl
theorem q1025 : (Jvm.Cond.classLink "java/util/HashMap$TreeNode" (10 : Nat) "java/util/HashMap$TreeNode") ∈ lw_all := lw_g (lw_at lw_m4 208 rfl) rfl
theorem q1026 : (Jvm.Cond.methodLink "java/util/HashMap$TreeNode" (119 : Nat) ({ cls := "java/util/HashMap$TreeNode", name := "untreeify", desc := "(Ljava/util/HashMap;)Ljava/util/HashMap$Node;" } : Jvm.MethodName)) ∈ lw_all := lw_g (lw_at lw_m4 209 rfl) rfl
theorem q1027 : (Jvm.Cond.instanceMethod ({ cls := "java/util/HashMap$TreeNode", name := "untreeify", desc := "(Ljava/util/HashMap;)Ljava/util/HashMap$Node;" } : Jvm.MethodName)) ∈ lw_all := lw_g (lw_at lw_m4 210 rfl) rfl
theorem q1028 : (Jvm.Cond.selects "java/util/HashMap$TreeNode" ({ cls := "java/util/HashMap$TreeNode", name := "untreeify", desc := "(Ljava/util/HashMap;)Ljava/util/HashMap$Node;" } : Jvm.MethodName) ({ cls := "java/util/HashMap$TreeNode", name := "untreeify", desc := "(Ljava/util/HashMap;)Ljava/util/HashMap$Node;" } : Jvm.MethodName)) ∈ lw_all := lw_g (lw_at lw_m4 211 rfl) rfl
theorem q1029 : (Jvm.Cond.code ({ cls := "java/util/HashMap$TreeNode", name := "untreeify", desc := "(Ljava/util/HashMap;)Ljava/util/HashMap$Node;" } : Jvm.MethodName) prog_54_method_8_code (6 : Nat) (Option.some (Jvm.ClassFile.FieldType.object "java/util/HashMap$Node"))) ∈ lw_all := lw_g (lw_at lw_m4 212 rfl) rfl
theorem q1030 : (Jvm.Cond.methodLink "java/util/HashMap$TreeNode" (108 : Nat) ({ cls := "java/util/HashMap", name := "replacementNode", desc := "(Ljava/util/HashMap$Node;Ljava/util/HashMap$Node;)Ljava/util/HashMap$Node;" } : Jvm.MethodName)) ∈ lw_all := lw_g (lw_at lw_m4 213 rfl) rfl
theorem q1050 : (Jvm.Cond.fieldLink "java/util/HashMap$TreeNode" (15 : Nat) "java/util/HashMap$TreeNode" "hash" "I") ∈ lw_all := lw_g (lw_at lw_m4 233 rfl) rfl
theorem q1051 : (Jvm.Cond.sameField "java/util/HashMap$TreeNode" "java/util/HashMap$Node" "hash" "I") ∈ lw_all := lw_g (lw_at lw_m4 234 rfl) rfl
theorem q1057 : (Jvm.Cond.fieldLink "java/util/HashMap$TreeNode" (45 : Nat) "java/util/HashMap$TreeNode" "key" "Ljava/lang/Object;") ∈ lw_all := lw_g (lw_at lw_m5 0 rfl) rfl
theorem q1058 : (Jvm.Cond.sameField "java/util/HashMap$TreeNode" "java/util/HashMap$Node" "key" "Ljava/lang/Object;") ∈ lw_all := lw_g (lw_at lw_m5 1 rfl) rfl
theorem q1069 : (Jvm.Cond.fieldLink "java/util/HashMap$TreeNode" (22 : Nat) "java/util/HashMap$TreeNode" "next" "Ljava/util/HashMap$Node;") ∈ lw_all := lw_g (lw_at lw_m5 12 rfl) rfl
theorem q1070 : (Jvm.Cond.sameField "java/util/HashMap$TreeNode" "java/util/HashMap$Node" "next" "Ljava/util/HashMap$Node;") ∈ lw_all := lw_g (lw_at lw_m5 13 rfl) rfl
theorem q1071 : (Jvm.Cond.fieldLink "java/util/HashMap$TreeNode" (112 : Nat) "java/util/HashMap$Node" "next" "Ljava/util/HashMap$Node;") ∈ lw_all := lw_g (lw_at lw_m5 14 rfl) rfl
theorem q1092 : (Jvm.Cond.methodLink "java/util/HashMap$TreeNode" (126 : Nat) ({ cls := "java/util/HashMap$TreeNode", name := "treeify", desc := "([Ljava/util/HashMap$Node;)V" } : Jvm.MethodName)) ∈ lw_all := lw_g (lw_at lw_m5 35 rfl) rfl
theorem q1093 : (Jvm.Cond.instanceMethod ({ cls := "java/util/HashMap$TreeNode", name := "treeify", desc := "([Ljava/util/HashMap$Node;)V" } : Jvm.MethodName)) ∈ lw_all := lw_g (lw_at lw_m5 36 rfl) rfl
theorem q1094 : (Jvm.Cond.selects "java/util/HashMap$TreeNode" ({ cls := "java/util/HashMap$TreeNode", name := "treeify", desc := "([Ljava/util/HashMap$Node;)V" } : Jvm.MethodName) ({ cls := "java/util/HashMap$TreeNode", name := "treeify", desc := "([Ljava/util/HashMap$Node;)V" } : Jvm.MethodName)) ∈ lw_all := lw_g (lw_at lw_m5 37 rfl) rfl
theorem q1095 : (Jvm.Cond.code ({ cls := "java/util/HashMap$TreeNode", name := "treeify", desc := "([Ljava/util/HashMap$Node;)V" } : Jvm.MethodName) prog_54_method_7_code (13 : Nat) (Option.none : Option Jvm.ClassFile.FieldType)) ∈ lw_all := lw_g (lw_at lw_m5 38 rfl) rfl
theorem q1096 : (Jvm.Cond.methodLink "java/util/HashMap$TreeNode" (55 : Nat) ({ cls := "java/util/HashMap", name := "comparableClassFor", desc := "(Ljava/lang/Object;)Ljava/lang/Class;" } : Jvm.MethodName)) ∈ lw_all := lw_g (lw_at lw_m5 39 rfl) rfl
theorem q1124 : (Jvm.Cond.selects "java/util/HashMap$TreeNode" ({ cls := "java/lang/Object", name := "getClass", desc := "()Ljava/lang/Class;" } : Jvm.MethodName) ({ cls := "java/lang/Object", name := "getClass", desc := "()Ljava/lang/Class;" } : Jvm.MethodName)) ∈ lw_all := lw_g (lw_at lw_m5 67 rfl) rfl
theorem q1139 : (Jvm.Cond.methodLink "java/util/HashMap$TreeNode" (59 : Nat) ({ cls := "java/util/HashMap", name := "compareComparables", desc := "(Ljava/lang/Class;Ljava/lang/Object;Ljava/lang/Object;)I" } : Jvm.MethodName)) ∈ lw_all := lw_g (lw_at lw_m5 82 rfl) rfl
theorem q1364 : (Jvm.Cond.methodLink "java/util/HashMap$TreeNode" (100 : Nat) ({ cls := "java/util/HashMap$TreeNode", name := "balanceInsertion", desc := "(Ljava/util/HashMap$TreeNode;Ljava/util/HashMap$TreeNode;)Ljava/util/HashMap$TreeNode;" } : Jvm.MethodName)) ∈ lw_all := lw_g (lw_at lw_m6 67 rfl) rfl
theorem q1365 : (Jvm.Cond.static ({ cls := "java/util/HashMap$TreeNode", name := "balanceInsertion", desc := "(Ljava/util/HashMap$TreeNode;Ljava/util/HashMap$TreeNode;)Ljava/util/HashMap$TreeNode;" } : Jvm.MethodName)) ∈ lw_all := lw_g (lw_at lw_m6 68 rfl) rfl
theorem q1366 : (Jvm.Cond.code ({ cls := "java/util/HashMap$TreeNode", name := "balanceInsertion", desc := "(Ljava/util/HashMap$TreeNode;Ljava/util/HashMap$TreeNode;)Ljava/util/HashMap$TreeNode;" } : Jvm.MethodName) prog_54_method_14_code (6 : Nat) (Option.some (Jvm.ClassFile.FieldType.object "java/util/HashMap$TreeNode"))) ∈ lw_all := lw_g (lw_at lw_m6 69 rfl) rfl
theorem q1367 : (Jvm.Cond.methodLink "java/util/HashMap$TreeNode" (130 : Nat) ({ cls := "java/util/HashMap$TreeNode", name := "rotateLeft", desc := "(Ljava/util/HashMap$TreeNode;Ljava/util/HashMap$TreeNode;)Ljava/util/HashMap$TreeNode;" } : Jvm.MethodName)) ∈ lw_all := lw_g (lw_at lw_m6 70 rfl) rfl
theorem q1368 : (Jvm.Cond.static ({ cls := "java/util/HashMap$TreeNode", name := "rotateLeft", desc := "(Ljava/util/HashMap$TreeNode;Ljava/util/HashMap$TreeNode;)Ljava/util/HashMap$TreeNode;" } : Jvm.MethodName)) ∈ lw_all := lw_g (lw_at lw_m6 71 rfl) rfl
theorem q1369 : (Jvm.Cond.code ({ cls := "java/util/HashMap$TreeNode", name := "rotateLeft", desc := "(Ljava/util/HashMap$TreeNode;Ljava/util/HashMap$TreeNode;)Ljava/util/HashMap$TreeNode;" } : Jvm.MethodName) prog_54_method_12_code (5 : Nat) (Option.some (Jvm.ClassFile.FieldType.object "java/util/HashMap$TreeNode"))) ∈ lw_all := lw_g (lw_at lw_m6 72 rfl) rfl
theorem q1370 : (Jvm.Cond.methodLink "java/util/HashMap$TreeNode" (133 : Nat) ({ cls := "java/util/HashMap$TreeNode", name := "rotateRight", desc := "(Ljava/util/HashMap$TreeNode;Ljava/util/HashMap$TreeNode;)Ljava/util/HashMap$TreeNode;" } : Jvm.MethodName)) ∈ lw_all := lw_g (lw_at lw_m6 73 rfl) rfl
theorem q1371 : (Jvm.Cond.static ({ cls := "java/util/HashMap$TreeNode", name := "rotateRight", desc := "(Ljava/util/HashMap$TreeNode;Ljava/util/HashMap$TreeNode;)Ljava/util/HashMap$TreeNode;" } : Jvm.MethodName)) ∈ lw_all := lw_g (lw_at lw_m6 74 rfl) rfl
theorem q1372 : (Jvm.Cond.code ({ cls := "java/util/HashMap$TreeNode", name := "rotateRight", desc := "(Ljava/util/HashMap$TreeNode;Ljava/util/HashMap$TreeNode;)Ljava/util/HashMap$TreeNode;" } : Jvm.MethodName) prog_54_method_13_code (5 : Nat) (Option.some (Jvm.ClassFile.FieldType.object "java/util/HashMap$TreeNode"))) ∈ lw_all := lw_g (lw_at lw_m6 75 rfl) rfl
theorem q1373 : (Jvm.Cond.methodLink "java/util/HashMap$TreeNode" (104 : Nat) ({ cls := "java/util/HashMap$TreeNode", name := "moveRootToFront", desc := "([Ljava/util/HashMap$Node;Ljava/util/HashMap$TreeNode;)V" } : Jvm.MethodName)) ∈ lw_all := lw_g (lw_at lw_m6 76 rfl) rfl
theorem q1374 : (Jvm.Cond.static ({ cls := "java/util/HashMap$TreeNode", name := "moveRootToFront", desc := "([Ljava/util/HashMap$Node;Ljava/util/HashMap$TreeNode;)V" } : Jvm.MethodName)) ∈ lw_all := lw_g (lw_at lw_m6 77 rfl) rfl
theorem q1375 : (Jvm.Cond.code ({ cls := "java/util/HashMap$TreeNode", name := "moveRootToFront", desc := "([Ljava/util/HashMap$Node;Ljava/util/HashMap$TreeNode;)V" } : Jvm.MethodName) prog_54_method_3_code (7 : Nat) (Option.none : Option Jvm.ClassFile.FieldType)) ∈ lw_all := lw_g (lw_at lw_m6 78 rfl) rfl
theorem q1376 : (Jvm.Cond.fieldLink "java/util/HashMap$TreeNode" (26 : Nat) "java/util/HashMap$TreeNode" "$assertionsDisabled" "Z") ∈ lw_all := lw_g (lw_at lw_m6 79 rfl) rfl
theorem q1377 : (Jvm.Cond.laysStatic "java/util/HashMap$TreeNode" "$assertionsDisabled" "Z") ∈ lw_tbl := lw_at lw_m6 80 rfl
theorem q1424 : (Jvm.Cond.instanceMethod ({ cls := "java/util/HashMap$TreeNode", name := "putTreeVal", desc := "(Ljava/util/HashMap;[Ljava/util/HashMap$Node;ILjava/lang/Object;Ljava/lang/Object;)Ljava/util/HashMap$TreeNode;" } : Jvm.MethodName)) ∈ lw_all := lw_g (lw_at lw_m6 127 rfl) rfl
theorem q1425 : (Jvm.Cond.selects "java/util/HashMap$TreeNode" ({ cls := "java/util/HashMap$TreeNode", name := "putTreeVal", desc := "(Ljava/util/HashMap;[Ljava/util/HashMap$Node;ILjava/lang/Object;Ljava/lang/Object;)Ljava/util/HashMap$TreeNode;" } : Jvm.MethodName) ({ cls := "java/util/HashMap$TreeNode", name := "putTreeVal", desc := "(Ljava/util/HashMap;[Ljava/util/HashMap$Node;ILjava/lang/Object;Ljava/lang/Object;)Ljava/util/HashMap$TreeNode;" } : Jvm.MethodName)) ∈ lw_all := lw_g (lw_at lw_m6 128 rfl) rfl
theorem q1426 : (Jvm.Cond.code ({ cls := "java/util/HashMap$TreeNode", name := "putTreeVal", desc := "(Ljava/util/HashMap;[Ljava/util/HashMap$Node;ILjava/lang/Object;Ljava/lang/Object;)Ljava/util/HashMap$TreeNode;" } : Jvm.MethodName) prog_54_method_9_code (16 : Nat) (Option.some (Jvm.ClassFile.FieldType.object "java/util/HashMap$TreeNode"))) ∈ lw_all := lw_g (lw_at lw_m6 129 rfl) rfl
theorem q1427 : (Jvm.Cond.methodLink "java/util/HashMap$TreeNode" (67 : Nat) ({ cls := "java/util/HashMap$TreeNode", name := "root", desc := "()Ljava/util/HashMap$TreeNode;" } : Jvm.MethodName)) ∈ lw_all := lw_g (lw_at lw_m6 130 rfl) rfl
theorem q1428 : (Jvm.Cond.instanceMethod ({ cls := "java/util/HashMap$TreeNode", name := "root", desc := "()Ljava/util/HashMap$TreeNode;" } : Jvm.MethodName)) ∈ lw_all := lw_g (lw_at lw_m6 131 rfl) rfl
theorem q1429 : (Jvm.Cond.selects "java/util/HashMap$TreeNode" ({ cls := "java/util/HashMap$TreeNode", name := "root", desc := "()Ljava/util/HashMap$TreeNode;" } : Jvm.MethodName) ({ cls := "java/util/HashMap$TreeNode", name := "root", desc := "()Ljava/util/HashMap$TreeNode;" } : Jvm.MethodName)) ∈ lw_all := lw_g (lw_at lw_m6 132 rfl) rfl
theorem q1430 : (Jvm.Cond.code ({ cls := "java/util/HashMap$TreeNode", name := "root", desc := "()Ljava/util/HashMap$TreeNode;" } : Jvm.MethodName) prog_54_method_2_code (3 : Nat) (Option.some (Jvm.ClassFile.FieldType.object "java/util/HashMap$TreeNode"))) ∈ lw_all := lw_g (lw_at lw_m6 133 rfl) rfl
theorem q1431 : (Jvm.Cond.methodLink "java/util/HashMap$TreeNode" (49 : Nat) ({ cls := "java/lang/Object", name := "equals", desc := "(Ljava/lang/Object;)Z" } : Jvm.MethodName)) ∈ lw_all := lw_g (lw_at lw_m6 134 rfl) rfl
theorem q1432 : (Jvm.Cond.methodLink "java/util/HashMap$TreeNode" (63 : Nat) ({ cls := "java/util/HashMap$TreeNode", name := "find", desc := "(ILjava/lang/Object;Ljava/lang/Class;)Ljava/util/HashMap$TreeNode;" } : Jvm.MethodName)) ∈ lw_all := lw_g (lw_at lw_m6 135 rfl) rfl
theorem q1433 : (Jvm.Cond.instanceMethod ({ cls := "java/util/HashMap$TreeNode", name := "find", desc := "(ILjava/lang/Object;Ljava/lang/Class;)Ljava/util/HashMap$TreeNode;" } : Jvm.MethodName)) ∈ lw_all := lw_g (lw_at lw_m6 136 rfl) rfl
theorem q1434 : (Jvm.Cond.selects "java/util/HashMap$TreeNode" ({ cls := "java/util/HashMap$TreeNode", name := "find", desc := "(ILjava/lang/Object;Ljava/lang/Class;)Ljava/util/HashMap$TreeNode;" } : Jvm.MethodName) ({ cls := "java/util/HashMap$TreeNode", name := "find", desc := "(ILjava/lang/Object;Ljava/lang/Class;)Ljava/util/HashMap$TreeNode;" } : Jvm.MethodName)) ∈ lw_all := lw_g (lw_at lw_m6 137 rfl) rfl
theorem q1435 : (Jvm.Cond.code ({ cls := "java/util/HashMap$TreeNode", name := "find", desc := "(ILjava/lang/Object;Ljava/lang/Class;)Ljava/util/HashMap$TreeNode;" } : Jvm.MethodName) prog_54_method_4_code (11 : Nat) (Option.some (Jvm.ClassFile.FieldType.object "java/util/HashMap$TreeNode"))) ∈ lw_all := lw_g (lw_at lw_m6 138 rfl) rfl
theorem q1436 : (Jvm.Cond.methodLink "java/util/HashMap$TreeNode" (115 : Nat) ({ cls := "java/util/HashMap", name := "newTreeNode", desc := "(ILjava/lang/Object;Ljava/lang/Object;Ljava/util/HashMap$Node;)Ljava/util/HashMap$TreeNode;" } : Jvm.MethodName)) ∈ lw_all := lw_g (lw_at lw_m6 139 rfl) rfl
theorem q1443 : (Jvm.Cond.instantiable "java/util/HashMap$TreeNode" (11 : Nat)) ∈ lw_all := lw_g (lw_at lw_m6 146 rfl) rfl
theorem q1445 : (Jvm.Cond.instanceMethod ({ cls := "java/util/HashMap$TreeNode", name := "<init>", desc := "(ILjava/lang/Object;Ljava/lang/Object;Ljava/util/HashMap$Node;)V" } : Jvm.MethodName)) ∈ lw_all := lw_g (lw_at lw_m6 148 rfl) rfl
theorem q1446 : (Jvm.Cond.code ({ cls := "java/util/HashMap$TreeNode", name := "<init>", desc := "(ILjava/lang/Object;Ljava/lang/Object;Ljava/util/HashMap$Node;)V" } : Jvm.MethodName) prog_54_method_1_code (5 : Nat) (Option.none : Option Jvm.ClassFile.FieldType)) ∈ lw_all := lw_g (lw_at lw_m6 149 rfl) rfl
theorem q1447 : (Jvm.Cond.methodLink "java/util/HashMap$TreeNode" (3 : Nat) ({ cls := "java/util/LinkedHashMap$Entry", name := "<init>", desc := "(ILjava/lang/Object;Ljava/lang/Object;Ljava/util/HashMap$Node;)V" } : Jvm.MethodName)) ∈ lw_all := lw_g (lw_at lw_m6 150 rfl) rfl
theorem q1448 : (Jvm.Cond.fieldLink "java/util/HashMap$TreeNode" (9 : Nat) "java/util/HashMap$TreeNode" "parent" "Ljava/util/HashMap$TreeNode;") ∈ lw_all := lw_g (lw_at lw_m6 151 rfl) rfl
theorem q1449 : (Jvm.Cond.fieldLink "java/util/HashMap$TreeNode" (39 : Nat) "java/util/HashMap$TreeNode" "left" "Ljava/util/HashMap$TreeNode;") ∈ lw_all := lw_g (lw_at lw_m6 152 rfl) rfl
theorem q1450 : (Jvm.Cond.fieldLink "java/util/HashMap$TreeNode" (42 : Nat) "java/util/HashMap$TreeNode" "right" "Ljava/util/HashMap$TreeNode;") ∈ lw_all := lw_g (lw_at lw_m6 153 rfl) rfl
theorem q1451 : (Jvm.Cond.fieldLink "java/util/HashMap$TreeNode" (19 : Nat) "java/util/HashMap$TreeNode" "prev" "Ljava/util/HashMap$TreeNode;") ∈ lw_all := lw_g (lw_at lw_m6 154 rfl) rfl
theorem q1453 : (Jvm.Cond.fieldLink "java/util/HashMap$TreeNode" (93 : Nat) "java/util/HashMap$TreeNode" "red" "Z") ∈ lw_all := lw_g (lw_at lw_m6 156 rfl) rfl
theorem q1454 : (Jvm.Cond.lays "java/util/HashMap$TreeNode" "java/util/HashMap$TreeNode" "parent" "Ljava/util/HashMap$TreeNode;") ∈ lw_all := lw_g (lw_at lw_m6 157 rfl) rfl
theorem q1455 : (Jvm.Cond.soleField "java/util/HashMap$TreeNode" "parent") ∈ lw_all := lw_g (lw_at lw_m6 158 rfl) rfl
theorem q1456 : (Jvm.Cond.lays "java/util/HashMap$TreeNode" "java/util/HashMap$TreeNode" "left" "Ljava/util/HashMap$TreeNode;") ∈ lw_all := lw_g (lw_at lw_m6 159 rfl) rfl
theorem q1457 : (Jvm.Cond.soleField "java/util/HashMap$TreeNode" "left") ∈ lw_all := lw_g (lw_at lw_m6 160 rfl) rfl
theorem q1458 : (Jvm.Cond.lays "java/util/HashMap$TreeNode" "java/util/HashMap$TreeNode" "right" "Ljava/util/HashMap$TreeNode;") ∈ lw_all := lw_g (lw_at lw_m6 161 rfl) rfl
theorem q1459 : (Jvm.Cond.soleField "java/util/HashMap$TreeNode" "right") ∈ lw_all := lw_g (lw_at lw_m6 162 rfl) rfl
theorem q1460 : (Jvm.Cond.lays "java/util/HashMap$TreeNode" "java/util/HashMap$TreeNode" "prev" "Ljava/util/HashMap$TreeNode;") ∈ lw_all := lw_g (lw_at lw_m6 163 rfl) rfl
theorem q1461 : (Jvm.Cond.soleField "java/util/HashMap$TreeNode" "prev") ∈ lw_all := lw_g (lw_at lw_m6 164 rfl) rfl
theorem q1462 : (Jvm.Cond.lays "java/util/HashMap$TreeNode" "java/util/HashMap$TreeNode" "red" "Z") ∈ lw_all := lw_g (lw_at lw_m6 165 rfl) rfl
theorem q1463 : (Jvm.Cond.soleField "java/util/HashMap$TreeNode" "red") ∈ lw_all := lw_g (lw_at lw_m6 166 rfl) rfl
theorem q1464 : (Jvm.Cond.lays "java/util/HashMap$TreeNode" "java/util/LinkedHashMap$Entry" "before" "Ljava/util/LinkedHashMap$Entry;") ∈ lw_all := lw_g (lw_at lw_m6 167 rfl) rfl
theorem q1465 : (Jvm.Cond.lays "java/util/HashMap$TreeNode" "java/util/LinkedHashMap$Entry" "after" "Ljava/util/LinkedHashMap$Entry;") ∈ lw_all := lw_g (lw_at lw_m6 168 rfl) rfl
theorem q1466 : (Jvm.Cond.laysFinal "java/util/HashMap$TreeNode" "java/util/HashMap$Node" "hash" "I") ∈ lw_all := lw_g (lw_at lw_m6 169 rfl) rfl
theorem q1467 : (Jvm.Cond.laysFinal "java/util/HashMap$TreeNode" "java/util/HashMap$Node" "key" "Ljava/lang/Object;") ∈ lw_all := lw_g (lw_at lw_m6 170 rfl) rfl
theorem q1468 : (Jvm.Cond.lays "java/util/HashMap$TreeNode" "java/util/HashMap$Node" "value" "Ljava/lang/Object;") ∈ lw_all := lw_g (lw_at lw_m6 171 rfl) rfl
theorem q1469 : (Jvm.Cond.lays "java/util/HashMap$TreeNode" "java/util/HashMap$Node" "next" "Ljava/util/HashMap$Node;") ∈ lw_all := lw_g (lw_at lw_m6 172 rfl) rfl
theorem q1470 : (Jvm.Cond.superclass "java/util/HashMap$TreeNode" "java/util/LinkedHashMap$Entry") ∈ lw_all := lw_g (lw_at lw_m6 173 rfl) rfl
theorem q1693 : (Jvm.Cond.instanceMethod ({ cls := "java/util/HashMap$TreeNode", name := "getTreeNode", desc := "(ILjava/lang/Object;)Ljava/util/HashMap$TreeNode;" } : Jvm.MethodName)) ∈ lw_all := lw_g (lw_at lw_m7 156 rfl) rfl
theorem q1694 : (Jvm.Cond.selects "java/util/HashMap$TreeNode" ({ cls := "java/util/HashMap$TreeNode", name := "getTreeNode", desc := "(ILjava/lang/Object;)Ljava/util/HashMap$TreeNode;" } : Jvm.MethodName) ({ cls := "java/util/HashMap$TreeNode", name := "getTreeNode", desc := "(ILjava/lang/Object;)Ljava/util/HashMap$TreeNode;" } : Jvm.MethodName)) ∈ lw_all := lw_g (lw_at lw_m7 157 rfl) rfl
theorem q1695 : (Jvm.Cond.code ({ cls := "java/util/HashMap$TreeNode", name := "getTreeNode", desc := "(ILjava/lang/Object;)Ljava/util/HashMap$TreeNode;" } : Jvm.MethodName) prog_54_method_5_code (3 : Nat) (Option.some (Jvm.ClassFile.FieldType.object "java/util/HashMap$TreeNode"))) ∈ lw_all := lw_g (lw_at lw_m7 158 rfl) rfl
theorem q2208 : (Jvm.Cond.instanceMethod ({ cls := "java/util/HashMap$TreeNode", name := "removeTreeNode", desc := "(Ljava/util/HashMap;[Ljava/util/HashMap$Node;Z)V" } : Jvm.MethodName)) ∈ lw_all := lw_g (lw_at lw_m9 191 rfl) rfl
theorem q2209 : (Jvm.Cond.selects "java/util/HashMap$TreeNode" ({ cls := "java/util/HashMap$TreeNode", name := "removeTreeNode", desc := "(Ljava/util/HashMap;[Ljava/util/HashMap$Node;Z)V" } : Jvm.MethodName) ({ cls := "java/util/HashMap$TreeNode", name := "removeTreeNode", desc := "(Ljava/util/HashMap;[Ljava/util/HashMap$Node;Z)V" } : Jvm.MethodName)) ∈ lw_all := lw_g (lw_at lw_m9 192 rfl) rfl
theorem q2210 : (Jvm.Cond.code ({ cls := "java/util/HashMap$TreeNode", name := "removeTreeNode", desc := "(Ljava/util/HashMap;[Ljava/util/HashMap$Node;Z)V" } : Jvm.MethodName) prog_54_method_10_code (21 : Nat) (Option.none : Option Jvm.ClassFile.FieldType)) ∈ lw_all := lw_g (lw_at lw_m9 193 rfl) rfl
theorem q2211 : (Jvm.Cond.methodLink "java/util/HashMap$TreeNode" (123 : Nat) ({ cls := "java/util/HashMap$TreeNode", name := "balanceDeletion", desc := "(Ljava/util/HashMap$TreeNode;Ljava/util/HashMap$TreeNode;)Ljava/util/HashMap$TreeNode;" } : Jvm.MethodName)) ∈ lw_all := lw_g (lw_at lw_m9 194 rfl) rfl
theorem q2212 : (Jvm.Cond.static ({ cls := "java/util/HashMap$TreeNode", name := "balanceDeletion", desc := "(Ljava/util/HashMap$TreeNode;Ljava/util/HashMap$TreeNode;)Ljava/util/HashMap$TreeNode;" } : Jvm.MethodName)) ∈ lw_all := lw_g (lw_at lw_m9 195 rfl) rfl
theorem q2213 : (Jvm.Cond.code ({ cls := "java/util/HashMap$TreeNode", name := "balanceDeletion", desc := "(Ljava/util/HashMap$TreeNode;Ljava/util/HashMap$TreeNode;)Ljava/util/HashMap$TreeNode;" } : Jvm.MethodName) prog_54_method_15_code (7 : Nat) (Option.some (Jvm.ClassFile.FieldType.object "java/util/HashMap$TreeNode"))) ∈ lw_all := lw_g (lw_at lw_m9 196 rfl) rfl
theorem q3170 : (Jvm.Cond.castable "java/util/HashMap$TreeNode" "java/util/LinkedHashMap$Entry") ∈ lw_tbl := lw_at lw_m13 193 rfl
theorem q3191 : (Jvm.Cond.castable "java/util/HashMap$TreeNode" "java/lang/Object") ∈ lw_tbl := lw_at lw_m13 214 rfl
theorem q3207 : (Jvm.Cond.castable "java/util/HashMap$TreeNode" "java/util/HashMap$Node") ∈ lw_tbl := lw_at lw_m13 230 rfl
theorem q156 : (Jvm.Cond.initialized "java/lang/Character") ∈ lw_all := lw_g (lw_at lw_m1 59 rfl) rfl
theorem q2729 : (Jvm.Cond.static ({ cls := "java/lang/Character", name := "isValidCodePoint", desc := "(I)Z" } : Jvm.MethodName)) ∈ lw_all := lw_g (lw_at lw_m11 232 rfl) rfl
theorem q2730 : (Jvm.Cond.code ({ cls := "java/lang/Character", name := "isValidCodePoint", desc := "(I)Z" } : Jvm.MethodName) prog_18_method_11_code (2 : Nat) (Option.some Jvm.ClassFile.FieldType.boolean)) ∈ lw_all := lw_g (lw_at lw_m11 233 rfl) rfl
theorem q2732 : (Jvm.Cond.static ({ cls := "java/lang/Character", name := "highSurrogate", desc := "(I)C" } : Jvm.MethodName)) ∈ lw_all := lw_g (lw_at lw_m11 235 rfl) rfl
theorem q2733 : (Jvm.Cond.code ({ cls := "java/lang/Character", name := "highSurrogate", desc := "(I)C" } : Jvm.MethodName) prog_18_method_28_code (1 : Nat) (Option.some Jvm.ClassFile.FieldType.char)) ∈ lw_all := lw_g (lw_at lw_m11 236 rfl) rfl
theorem q2734 : (Jvm.Cond.constant "java/lang/Character" (110 : Nat) (55232 : Int32)) ∈ lw_all := lw_g (lw_at lw_m11 237 rfl) rfl
theorem q2736 : (Jvm.Cond.static ({ cls := "java/lang/Character", name := "lowSurrogate", desc := "(I)C" } : Jvm.MethodName)) ∈ lw_all := lw_g (lw_at lw_m11 239 rfl) rfl
theorem q2737 : (Jvm.Cond.code ({ cls := "java/lang/Character", name := "lowSurrogate", desc := "(I)C" } : Jvm.MethodName) prog_18_method_29_code (1 : Nat) (Option.some Jvm.ClassFile.FieldType.char)) ∈ lw_all := lw_g (lw_at lw_m12 0 rfl) rfl
theorem q2738 : (Jvm.Cond.constant "java/lang/Character" (76 : Nat) (56320 : Int32)) ∈ lw_all := lw_g (lw_at lw_m12 1 rfl) rfl
theorem q964 : (Jvm.Cond.castable "java/lang/System$2" "jdk/internal/access/JavaLangAccess") ∈ lw_tbl := lw_at lw_m4 147 rfl
theorem q965 : (Jvm.Cond.selects "java/lang/System$2" ({ cls := "jdk/internal/access/JavaLangAccess", name := "getUTF16Char", desc := "([BI)C" } : Jvm.MethodName) ({ cls := "java/lang/System$2", name := "getUTF16Char", desc := "([BI)C" } : Jvm.MethodName)) ∈ lw_all := lw_g (lw_at lw_m4 148 rfl) rfl
theorem q966 : (Jvm.Cond.unhidden "java/lang/System$2" "getUTF16Char" "([BI)C") ∈ lw_tbl := lw_at lw_m4 149 rfl
theorem q967 : (Jvm.Cond.instanceMethod ({ cls := "java/lang/System$2", name := "getUTF16Char", desc := "([BI)C" } : Jvm.MethodName)) ∈ lw_all := lw_g (lw_at lw_m4 150 rfl) rfl
theorem q968 : (Jvm.Cond.publicMethod ({ cls := "java/lang/System$2", name := "getUTF16Char", desc := "([BI)C" } : Jvm.MethodName)) ∈ lw_tbl := lw_at lw_m4 151 rfl
theorem q969 : (Jvm.Cond.code ({ cls := "java/lang/System$2", name := "getUTF16Char", desc := "([BI)C" } : Jvm.MethodName) prog_33_method_45_code (3 : Nat) (Option.some Jvm.ClassFile.FieldType.char)) ∈ lw_all := lw_g (lw_at lw_m4 152 rfl) rfl
theorem q970 : (Jvm.Cond.methodLink "java/lang/System$2" (185 : Nat) ({ cls := "java/lang/StringUTF16", name := "getChar", desc := "([BI)C" } : Jvm.MethodName)) ∈ lw_all := lw_g (lw_at lw_m4 153 rfl) rfl
theorem q1003 : (Jvm.Cond.selects "java/lang/System$2" ({ cls := "java/lang/Object", name := "hashCode", desc := "()I" } : Jvm.MethodName) ({ cls := "java/lang/Object", name := "hashCode", desc := "()I" } : Jvm.MethodName)) ∈ lw_all := lw_g (lw_at lw_m4 186 rfl) rfl
theorem q1116 : (Jvm.Cond.selects "java/lang/System$2" ({ cls := "java/lang/Object", name := "getClass", desc := "()Ljava/lang/Class;" } : Jvm.MethodName) ({ cls := "java/lang/Object", name := "getClass", desc := "()Ljava/lang/Class;" } : Jvm.MethodName)) ∈ lw_all := lw_g (lw_at lw_m5 59 rfl) rfl
theorem q1420 : (Jvm.Cond.selects "java/lang/System$2" ({ cls := "java/lang/Object", name := "equals", desc := "(Ljava/lang/Object;)Z" } : Jvm.MethodName) ({ cls := "java/lang/Object", name := "equals", desc := "(Ljava/lang/Object;)Z" } : Jvm.MethodName)) ∈ lw_all := lw_g (lw_at lw_m6 123 rfl) rfl
theorem q3204 : (Jvm.Cond.castable "java/lang/System$2" "java/lang/Object") ∈ lw_tbl := lw_at lw_m13 227 rfl
theorem q97 : (Jvm.Cond.initialized "WireDigsLaw") ∈ lw_all := lw_g (lw_at lw_m1 0 rfl) rfl
theorem q157 : (Jvm.Cond.classLink "WireDigsLaw" (7 : Nat) "WireDigs") ∈ lw_all := lw_g (lw_at lw_m1 60 rfl) rfl
theorem q159 : (Jvm.Cond.methodLink "WireDigsLaw" (9 : Nat) ({ cls := "WireDigs", name := "<init>", desc := "()V" } : Jvm.MethodName)) ∈ lw_all := lw_g (lw_at lw_m1 62 rfl) rfl
theorem q422 : (Jvm.Cond.methodLink "WireDigsLaw" (13 : Nat) ({ cls := "WireDigs", name := "set", desc := "(II)I" } : Jvm.MethodName)) ∈ lw_all := lw_g (lw_at lw_m2 85 rfl) rfl
theorem q1649 : (Jvm.Cond.methodLink "WireDigsLaw" (18 : Nat) ({ cls := "WireDigs", name := "block", desc := "(II)I" } : Jvm.MethodName)) ∈ lw_all := lw_g (lw_at lw_m7 112 rfl) rfl
theorem q1709 : (Jvm.Cond.methodLink "WireDigsLaw" (22 : Nat) ({ cls := "WireDigs", name := "net", desc := "(IIIII)I" } : Jvm.MethodName)) ∈ lw_all := lw_g (lw_at lw_m7 172 rfl) rfl
theorem q1738 : (Jvm.Cond.methodLink "WireDigsLaw" (27 : Nat) ({ cls := "WireDigs", name := "give", desc := "(II)I" } : Jvm.MethodName)) ∈ lw_all := lw_g (lw_at lw_m7 201 rfl) rfl
theorem q1767 : (Jvm.Cond.methodLink "WireDigsLaw" (31 : Nat) ({ cls := "WireDigs", name := "netOf", desc := "(II)I" } : Jvm.MethodName)) ∈ lw_all := lw_g (lw_at lw_m7 230 rfl) rfl
theorem q1869 : (Jvm.Cond.methodLink "WireDigsLaw" (35 : Nat) ({ cls := "WireDigs", name := "cellOf", desc := "(I)I" } : Jvm.MethodName)) ∈ lw_all := lw_g (lw_at lw_m8 92 rfl) rfl
theorem q1892 : (Jvm.Cond.methodLink "WireDigsLaw" (40 : Nat) ({ cls := "WireDigs", name := "wireAt", desc := "(II)I" } : Jvm.MethodName)) ∈ lw_all := lw_g (lw_at lw_m8 115 rfl) rfl
theorem q2069 : (Jvm.Cond.methodLink "WireDigsLaw" (44 : Nat) ({ cls := "WireDigs", name := "lay", desc := "(I)I" } : Jvm.MethodName)) ∈ lw_all := lw_g (lw_at lw_m9 52 rfl) rfl
theorem q2362 : (Jvm.Cond.methodLink "WireDigsLaw" (48 : Nat) ({ cls := "WireDigs", name := "dig", desc := "(I)I" } : Jvm.MethodName)) ∈ lw_all := lw_g (lw_at lw_m10 105 rfl) rfl
theorem q2366 : (Jvm.Cond.methodLink "WireDigsLaw" (52 : Nat) ({ cls := "WireDigs", name := "rip", desc := "(I)I" } : Jvm.MethodName)) ∈ lw_all := lw_g (lw_at lw_m10 109 rfl) rfl
theorem q2370 : (Jvm.Cond.methodLink "WireDigsLaw" (56 : Nat) ({ cls := "WireDigs", name := "appeal", desc := "(I)I" } : Jvm.MethodName)) ∈ lw_all := lw_g (lw_at lw_m10 113 rfl) rfl
theorem q2374 : (Jvm.Cond.methodLink "WireDigsLaw" (60 : Nat) ({ cls := "WireDigs", name := "hear", desc := "()I" } : Jvm.MethodName)) ∈ lw_all := lw_g (lw_at lw_m10 117 rfl) rfl
theorem q2378 : (Jvm.Cond.methodLink "WireDigsLaw" (65 : Nat) ({ cls := "WireDigs", name := "pass", desc := "(I)I" } : Jvm.MethodName)) ∈ lw_all := lw_g (lw_at lw_m10 121 rfl) rfl
theorem q2382 : (Jvm.Cond.methodLink "WireDigsLaw" (69 : Nat) ({ cls := "WireDigs", name := "cost", desc := "(II)I" } : Jvm.MethodName)) ∈ lw_all := lw_g (lw_at lw_m10 125 rfl) rfl
theorem q2390 : (Jvm.Cond.methodLink "WireDigsLaw" (73 : Nat) ({ cls := "WireDigs", name := "price", desc := "(I)I" } : Jvm.MethodName)) ∈ lw_all := lw_g (lw_at lw_m10 133 rfl) rfl
theorem q2394 : (Jvm.Cond.methodLink "WireDigsLaw" (77 : Nat) ({ cls := "WireDigs", name := "victims", desc := "(I)I" } : Jvm.MethodName)) ∈ lw_all := lw_g (lw_at lw_m10 137 rfl) rfl
theorem q2398 : (Jvm.Cond.methodLink "WireDigsLaw" (81 : Nat) ({ cls := "WireDigs", name := "routeAt", desc := "(III)I" } : Jvm.MethodName)) ∈ lw_all := lw_g (lw_at lw_m10 141 rfl) rfl
theorem q2402 : (Jvm.Cond.methodLink "WireDigsLaw" (86 : Nat) ({ cls := "WireDigs", name := "bestOrder", desc := "(I)I" } : Jvm.MethodName)) ∈ lw_all := lw_g (lw_at lw_m10 145 rfl) rfl
theorem q2446 : (Jvm.Cond.methodLink "WireDigsLaw" (90 : Nat) ({ cls := "WireDigs", name := "claimOf", desc := "(II)I" } : Jvm.MethodName)) ∈ lw_all := lw_g (lw_at lw_m10 189 rfl) rfl
theorem q2454 : (Jvm.Cond.methodLink "WireDigsLaw" (94 : Nat) ({ cls := "WireDigs", name := "docketAt", desc := "(I)I" } : Jvm.MethodName)) ∈ lw_all := lw_g (lw_at lw_m10 197 rfl) rfl
theorem q2460 : (Jvm.Cond.methodLink "WireDigsLaw" (98 : Nat) ({ cls := "WireDigs", name := "wronged", desc := "()I" } : Jvm.MethodName)) ∈ lw_all := lw_g (lw_at lw_m10 203 rfl) rfl
theorem q2468 : (Jvm.Cond.methodLink "WireDigsLaw" (102 : Nat) ({ cls := "WireDigs", name := "count", desc := "(I)I" } : Jvm.MethodName)) ∈ lw_all := lw_g (lw_at lw_m10 211 rfl) rfl
theorem q2525 : (Jvm.Cond.methodLink "WireDigsLaw" (106 : Nat) ({ cls := "WireDigs", name := "undo", desc := "()I" } : Jvm.MethodName)) ∈ lw_all := lw_g (lw_at lw_m11 28 rfl) rfl
theorem q2541 : (Jvm.Cond.methodLink "WireDigsLaw" (110 : Nat) ({ cls := "WireDigs", name := "type", desc := "(I)I" } : Jvm.MethodName)) ∈ lw_all := lw_g (lw_at lw_m11 44 rfl) rfl
theorem q2607 : (Jvm.Cond.methodLink "WireDigsLaw" (114 : Nat) ({ cls := "WireDigs", name := "clearText", desc := "()I" } : Jvm.MethodName)) ∈ lw_all := lw_g (lw_at lw_m11 110 rfl) rfl
theorem q2631 : (Jvm.Cond.methodLink "WireDigsLaw" (118 : Nat) ({ cls := "WireDigs", name := "fault", desc := "(I)I" } : Jvm.MethodName)) ∈ lw_all := lw_g (lw_at lw_m11 134 rfl) rfl
theorem q2766 : (Jvm.Cond.methodLink "WireDigsLaw" (122 : Nat) ({ cls := "WireDigs", name := "play", desc := "()I" } : Jvm.MethodName)) ∈ lw_all := lw_g (lw_at lw_m12 29 rfl) rfl
theorem q2770 : (Jvm.Cond.classLink "WireDigsLaw" (10 : Nat) "WireDigsModel") ∈ lw_all := lw_g (lw_at lw_m12 33 rfl) rfl
theorem q2772 : (Jvm.Cond.methodLink "WireDigsLaw" (12 : Nat) ({ cls := "WireDigsModel", name := "<init>", desc := "()V" } : Jvm.MethodName)) ∈ lw_all := lw_g (lw_at lw_m12 35 rfl) rfl
theorem q2834 : (Jvm.Cond.methodLink "WireDigsLaw" (109 : Nat) ({ cls := "WireDigsModel", name := "undo", desc := "()I" } : Jvm.MethodName)) ∈ lw_all := lw_g (lw_at lw_m12 97 rfl) rfl
theorem q2839 : (Jvm.Cond.methodLink "WireDigsLaw" (17 : Nat) ({ cls := "WireDigsModel", name := "set", desc := "(II)I" } : Jvm.MethodName)) ∈ lw_all := lw_g (lw_at lw_m12 102 rfl) rfl
theorem q2861 : (Jvm.Cond.methodLink "WireDigsLaw" (21 : Nat) ({ cls := "WireDigsModel", name := "block", desc := "(II)I" } : Jvm.MethodName)) ∈ lw_all := lw_g (lw_at lw_m12 124 rfl) rfl
theorem q2873 : (Jvm.Cond.methodLink "WireDigsLaw" (26 : Nat) ({ cls := "WireDigsModel", name := "net", desc := "(IIIII)I" } : Jvm.MethodName)) ∈ lw_all := lw_g (lw_at lw_m12 136 rfl) rfl
theorem q2878 : (Jvm.Cond.methodLink "WireDigsLaw" (30 : Nat) ({ cls := "WireDigsModel", name := "give", desc := "(II)I" } : Jvm.MethodName)) ∈ lw_all := lw_g (lw_at lw_m12 141 rfl) rfl
theorem q2895 : (Jvm.Cond.methodLink "WireDigsLaw" (34 : Nat) ({ cls := "WireDigsModel", name := "netOf", desc := "(II)I" } : Jvm.MethodName)) ∈ lw_all := lw_g (lw_at lw_m12 158 rfl) rfl
theorem q2908 : (Jvm.Cond.methodLink "WireDigsLaw" (39 : Nat) ({ cls := "WireDigsModel", name := "cellOf", desc := "(I)I" } : Jvm.MethodName)) ∈ lw_all := lw_g (lw_at lw_m12 171 rfl) rfl
theorem q2912 : (Jvm.Cond.methodLink "WireDigsLaw" (43 : Nat) ({ cls := "WireDigsModel", name := "wireAt", desc := "(II)I" } : Jvm.MethodName)) ∈ lw_all := lw_g (lw_at lw_m12 175 rfl) rfl
theorem q2916 : (Jvm.Cond.methodLink "WireDigsLaw" (47 : Nat) ({ cls := "WireDigsModel", name := "lay", desc := "(I)I" } : Jvm.MethodName)) ∈ lw_all := lw_g (lw_at lw_m12 179 rfl) rfl
theorem q2960 : (Jvm.Cond.methodLink "WireDigsLaw" (51 : Nat) ({ cls := "WireDigsModel", name := "dig", desc := "(I)I" } : Jvm.MethodName)) ∈ lw_all := lw_g (lw_at lw_m12 223 rfl) rfl
theorem q2999 : (Jvm.Cond.methodLink "WireDigsLaw" (55 : Nat) ({ cls := "WireDigsModel", name := "rip", desc := "(I)I" } : Jvm.MethodName)) ∈ lw_all := lw_g (lw_at lw_m13 22 rfl) rfl
theorem q3007 : (Jvm.Cond.methodLink "WireDigsLaw" (59 : Nat) ({ cls := "WireDigsModel", name := "appeal", desc := "(I)I" } : Jvm.MethodName)) ∈ lw_all := lw_g (lw_at lw_m13 30 rfl) rfl
theorem q3031 : (Jvm.Cond.methodLink "WireDigsLaw" (64 : Nat) ({ cls := "WireDigsModel", name := "hear", desc := "()I" } : Jvm.MethodName)) ∈ lw_all := lw_g (lw_at lw_m13 54 rfl) rfl
theorem q3055 : (Jvm.Cond.methodLink "WireDigsLaw" (68 : Nat) ({ cls := "WireDigsModel", name := "pass", desc := "(I)I" } : Jvm.MethodName)) ∈ lw_all := lw_g (lw_at lw_m13 78 rfl) rfl
theorem q3063 : (Jvm.Cond.methodLink "WireDigsLaw" (72 : Nat) ({ cls := "WireDigsModel", name := "cost", desc := "(II)I" } : Jvm.MethodName)) ∈ lw_all := lw_g (lw_at lw_m13 86 rfl) rfl
theorem q3071 : (Jvm.Cond.methodLink "WireDigsLaw" (76 : Nat) ({ cls := "WireDigsModel", name := "price", desc := "(I)I" } : Jvm.MethodName)) ∈ lw_all := lw_g (lw_at lw_m13 94 rfl) rfl
theorem q3075 : (Jvm.Cond.methodLink "WireDigsLaw" (80 : Nat) ({ cls := "WireDigsModel", name := "victims", desc := "(I)I" } : Jvm.MethodName)) ∈ lw_all := lw_g (lw_at lw_m13 98 rfl) rfl
theorem q3079 : (Jvm.Cond.methodLink "WireDigsLaw" (85 : Nat) ({ cls := "WireDigsModel", name := "routeAt", desc := "(III)I" } : Jvm.MethodName)) ∈ lw_all := lw_g (lw_at lw_m13 102 rfl) rfl
theorem q3083 : (Jvm.Cond.methodLink "WireDigsLaw" (89 : Nat) ({ cls := "WireDigsModel", name := "bestOrder", desc := "(I)I" } : Jvm.MethodName)) ∈ lw_all := lw_g (lw_at lw_m13 106 rfl) rfl
theorem q3091 : (Jvm.Cond.methodLink "WireDigsLaw" (93 : Nat) ({ cls := "WireDigsModel", name := "claimOf", desc := "(II)I" } : Jvm.MethodName)) ∈ lw_all := lw_g (lw_at lw_m13 114 rfl) rfl
theorem q3095 : (Jvm.Cond.methodLink "WireDigsLaw" (97 : Nat) ({ cls := "WireDigsModel", name := "docketAt", desc := "(I)I" } : Jvm.MethodName)) ∈ lw_all := lw_g (lw_at lw_m13 118 rfl) rfl
theorem q3099 : (Jvm.Cond.methodLink "WireDigsLaw" (101 : Nat) ({ cls := "WireDigsModel", name := "wronged", desc := "()I" } : Jvm.MethodName)) ∈ lw_all := lw_g (lw_at lw_m13 122 rfl) rfl
theorem q3103 : (Jvm.Cond.methodLink "WireDigsLaw" (105 : Nat) ({ cls := "WireDigsModel", name := "count", desc := "(I)I" } : Jvm.MethodName)) ∈ lw_all := lw_g (lw_at lw_m13 126 rfl) rfl
theorem q3119 : (Jvm.Cond.methodLink "WireDigsLaw" (113 : Nat) ({ cls := "WireDigsModel", name := "type", desc := "(I)I" } : Jvm.MethodName)) ∈ lw_all := lw_g (lw_at lw_m13 142 rfl) rfl
theorem q3123 : (Jvm.Cond.methodLink "WireDigsLaw" (117 : Nat) ({ cls := "WireDigsModel", name := "clearText", desc := "()I" } : Jvm.MethodName)) ∈ lw_all := lw_g (lw_at lw_m13 146 rfl) rfl
theorem q3127 : (Jvm.Cond.methodLink "WireDigsLaw" (121 : Nat) ({ cls := "WireDigsModel", name := "fault", desc := "(I)I" } : Jvm.MethodName)) ∈ lw_all := lw_g (lw_at lw_m13 150 rfl) rfl
theorem q3151 : (Jvm.Cond.methodLink "WireDigsLaw" (125 : Nat) ({ cls := "WireDigsModel", name := "play", desc := "()I" } : Jvm.MethodName)) ∈ lw_all := lw_g (lw_at lw_m13 174 rfl) rfl
theorem q2490 : (Jvm.Cond.interfaceMethod "WireDigs$Counted" "WireDigs$Counted" "many" "()I") ∈ lw_tbl := lw_at lw_m10 233 rfl
theorem q2491 : (Jvm.Cond.declares ({ cls := "WireDigs$Counted", name := "many", desc := "()I" } : Jvm.MethodName)) ∈ lw_tbl := lw_at lw_m10 234 rfl
theorem q2568 : (Jvm.Cond.sameMethod "[B" "java/lang/Object" "clone" "()Ljava/lang/Object;") ∈ lw_all := lw_g (lw_at lw_m11 71 rfl) rfl
theorem q2569 : (Jvm.Cond.selects "[B" ({ cls := "[B", name := "clone", desc := "()Ljava/lang/Object;" } : Jvm.MethodName) ({ cls := "java/lang/Object", name := "clone", desc := "()Ljava/lang/Object;" } : Jvm.MethodName)) ∈ lw_all := lw_g (lw_at lw_m11 72 rfl) rfl
theorem q2570 : (Jvm.Cond.castable "[B" "java/lang/Cloneable") ∈ lw_tbl := lw_at lw_m11 73 rfl
theorem q3214 : (Jvm.Cond.castable "[B" "java/lang/Object") ∈ lw_tbl := lw_at lw_m13 237 rfl
theorem q1624 : (Jvm.Cond.sameMethod "[I" "java/lang/Object" "clone" "()Ljava/lang/Object;") ∈ lw_all := lw_g (lw_at lw_m7 87 rfl) rfl
theorem q1625 : (Jvm.Cond.selects "[I" ({ cls := "[I", name := "clone", desc := "()Ljava/lang/Object;" } : Jvm.MethodName) ({ cls := "java/lang/Object", name := "clone", desc := "()Ljava/lang/Object;" } : Jvm.MethodName)) ∈ lw_all := lw_g (lw_at lw_m7 88 rfl) rfl
theorem q1626 : (Jvm.Cond.castable "[I" "java/lang/Cloneable") ∈ lw_tbl := lw_at lw_m7 89 rfl
theorem q3212 : (Jvm.Cond.castable "[I" "java/lang/Object") ∈ lw_tbl := lw_at lw_m13 235 rfl
theorem q3208 : (Jvm.Cond.sameMethod "[Ljava/lang/Object;" "java/lang/Object" "getClass" "()Ljava/lang/Class;") ∈ lw_all := lw_g (lw_at lw_m13 231 rfl) rfl
theorem q3209 : (Jvm.Cond.selects "[Ljava/lang/Object;" ({ cls := "java/lang/Object", name := "getClass", desc := "()Ljava/lang/Class;" } : Jvm.MethodName) ({ cls := "java/lang/Object", name := "getClass", desc := "()Ljava/lang/Class;" } : Jvm.MethodName)) ∈ lw_all := lw_g (lw_at lw_m13 232 rfl) rfl
theorem q3213 : (Jvm.Cond.castable "[Ljava/lang/Object;" "java/lang/Object") ∈ lw_tbl := lw_at lw_m13 236 rfl
theorem q3215 : (Jvm.Cond.castable "[Ljava/util/HashMap$Node;" "java/lang/Object") ∈ lw_tbl := lw_at lw_m13 238 rfl
theorem q1617 : (Jvm.Cond.sameMethod "[Z" "java/lang/Object" "clone" "()Ljava/lang/Object;") ∈ lw_all := lw_g (lw_at lw_m7 80 rfl) rfl
theorem q1620 : (Jvm.Cond.selects "[Z" ({ cls := "[Z", name := "clone", desc := "()Ljava/lang/Object;" } : Jvm.MethodName) ({ cls := "java/lang/Object", name := "clone", desc := "()Ljava/lang/Object;" } : Jvm.MethodName)) ∈ lw_all := lw_g (lw_at lw_m7 83 rfl) rfl
theorem q1621 : (Jvm.Cond.castable "[Z" "java/lang/Cloneable") ∈ lw_tbl := lw_at lw_m7 84 rfl
theorem q3211 : (Jvm.Cond.castable "[Z" "java/lang/Object") ∈ lw_tbl := lw_at lw_m13 234 rfl
theorem q1144 : (Jvm.Cond.interfaceMethod "java/lang/Comparable" "java/lang/Comparable" "compareTo" "(Ljava/lang/Object;)I") ∈ lw_tbl := lw_at lw_m5 87 rfl
theorem q1145 : (Jvm.Cond.declares ({ cls := "java/lang/Comparable", name := "compareTo", desc := "(Ljava/lang/Object;)I" } : Jvm.MethodName)) ∈ lw_tbl := lw_at lw_m5 88 rfl
theorem q148 : (Jvm.Cond.initialized "java/lang/Integer$IntegerCache") ∈ lw_all := lw_g (lw_at lw_m1 51 rfl) rfl
theorem q1929 : (Jvm.Cond.laysStatic "java/lang/Integer$IntegerCache" "high" "I") ∈ lw_tbl := lw_at lw_m8 152 rfl
theorem q1931 : (Jvm.Cond.laysStatic "java/lang/Integer$IntegerCache" "cache" "[Ljava/lang/Integer;") ∈ lw_tbl := lw_at lw_m8 154 rfl
theorem q144 : (Jvm.Cond.initialized "java/lang/System") ∈ lw_all := lw_g (lw_at lw_m1 47 rfl) rfl
theorem q1544 : (Jvm.Cond.static ({ cls := "java/lang/System", name := "arraycopy", desc := "(Ljava/lang/Object;ILjava/lang/Object;II)V" } : Jvm.MethodName)) ∈ lw_all := lw_g (lw_at lw_m7 7 rfl) rfl
theorem q1545 : (Jvm.Cond.native ({ cls := "java/lang/System", name := "arraycopy", desc := "(Ljava/lang/Object;ILjava/lang/Object;II)V" } : Jvm.MethodName)) ∈ lw_all := lw_g (lw_at lw_m7 8 rfl) rfl
theorem q689 : (Jvm.Cond.interfaceMethod "java/util/Collection" "java/util/Collection" "iterator" "()Ljava/util/Iterator;") ∈ lw_tbl := lw_at lw_m3 112 rfl
theorem q690 : (Jvm.Cond.declares ({ cls := "java/util/Collection", name := "iterator", desc := "()Ljava/util/Iterator;" } : Jvm.MethodName)) ∈ lw_tbl := lw_at lw_m3 113 rfl
theorem q1803 : (Jvm.Cond.interfaceMethod "java/util/Collection" "java/util/Collection" "contains" "(Ljava/lang/Object;)Z") ∈ lw_tbl := lw_at lw_m8 26 rfl
theorem q1804 : (Jvm.Cond.declares ({ cls := "java/util/Collection", name := "contains", desc := "(Ljava/lang/Object;)Z" } : Jvm.MethodName)) ∈ lw_tbl := lw_at lw_m8 27 rfl
theorem q1965 : (Jvm.Cond.interfaceMethod "java/util/Comparator" "java/util/Comparator" "compare" "(Ljava/lang/Object;Ljava/lang/Object;)I") ∈ lw_tbl := lw_at lw_m8 188 rfl
theorem q1966 : (Jvm.Cond.declares ({ cls := "java/util/Comparator", name := "compare", desc := "(Ljava/lang/Object;Ljava/lang/Object;)I" } : Jvm.MethodName)) ∈ lw_tbl := lw_at lw_m8 189 rfl
theorem q467 : (Jvm.Cond.interfaceMethod "java/util/Iterator" "java/util/Iterator" "hasNext" "()Z") ∈ lw_tbl := lw_at lw_m2 130 rfl
theorem q468 : (Jvm.Cond.declares ({ cls := "java/util/Iterator", name := "hasNext", desc := "()Z" } : Jvm.MethodName)) ∈ lw_tbl := lw_at lw_m2 131 rfl
theorem q511 : (Jvm.Cond.interfaceMethod "java/util/Iterator" "java/util/Iterator" "next" "()Ljava/lang/Object;") ∈ lw_tbl := lw_at lw_m2 174 rfl
theorem q512 : (Jvm.Cond.declares ({ cls := "java/util/Iterator", name := "next", desc := "()Ljava/lang/Object;" } : Jvm.MethodName)) ∈ lw_tbl := lw_at lw_m2 175 rfl
theorem q2417 : (Jvm.Cond.interfaceMethod "java/util/List" "java/util/List" "size" "()I") ∈ lw_tbl := lw_at lw_m10 160 rfl
theorem q2418 : (Jvm.Cond.declares ({ cls := "java/util/List", name := "size", desc := "()I" } : Jvm.MethodName)) ∈ lw_tbl := lw_at lw_m10 161 rfl
theorem q2435 : (Jvm.Cond.interfaceMethod "java/util/List" "java/util/List" "get" "(I)Ljava/lang/Object;") ∈ lw_tbl := lw_at lw_m10 178 rfl
theorem q2436 : (Jvm.Cond.declares ({ cls := "java/util/List", name := "get", desc := "(I)Ljava/lang/Object;" } : Jvm.MethodName)) ∈ lw_tbl := lw_at lw_m10 179 rfl
theorem q822 : (Jvm.Cond.interfaceMethod "java/util/Set" "java/util/Set" "iterator" "()Ljava/util/Iterator;") ∈ lw_tbl := lw_at lw_m4 5 rfl
theorem q823 : (Jvm.Cond.declares ({ cls := "java/util/Set", name := "iterator", desc := "()Ljava/util/Iterator;" } : Jvm.MethodName)) ∈ lw_tbl := lw_at lw_m4 6 rfl
theorem q962 : (Jvm.Cond.interfaceMethod "jdk/internal/access/JavaLangAccess" "jdk/internal/access/JavaLangAccess" "getUTF16Char" "([BI)C") ∈ lw_tbl := lw_at lw_m4 145 rfl
theorem q963 : (Jvm.Cond.declares ({ cls := "jdk/internal/access/JavaLangAccess", name := "getUTF16Char", desc := "([BI)C" } : Jvm.MethodName)) ∈ lw_tbl := lw_at lw_m4 146 rfl
theorem q139 : (Jvm.Cond.initialized "jdk/internal/misc/UnsafeConstants") ∈ lw_all := lw_g (lw_at lw_m1 42 rfl) rfl
theorem q1236 : (Jvm.Cond.laysStatic "jdk/internal/misc/UnsafeConstants" "BIG_ENDIAN" "Z") ∈ lw_tbl := lw_at lw_m5 179 rfl
theorem q306 : (Jvm.Cond.arrayClass Jvm.ClassFile.FieldType.boolean) ∈ lw_all := lw_g (lw_at lw_m1 209 rfl) rfl
theorem q307 : (Jvm.Cond.arrayClass Jvm.ClassFile.FieldType.int) ∈ lw_all := lw_g (lw_at lw_m1 210 rfl) rfl
theorem q315 : (Jvm.Cond.arrayOver (Jvm.ClassFile.FieldType.object "java/lang/Object")) ∈ lw_tbl := lw_at lw_m1 218 rfl
theorem q359 : (Jvm.Cond.arrayClass Jvm.ClassFile.FieldType.byte) ∈ lw_all := lw_g (lw_at lw_m2 22 rfl) rfl
theorem q1019 : (Jvm.Cond.arrayOver (Jvm.ClassFile.FieldType.object "java/util/HashMap$Node")) ∈ lw_tbl := lw_at lw_m4 202 rfl
theorem q3216 : (Jvm.Cond.arrayClass Jvm.ClassFile.FieldType.char) ∈ lw_all := lw_g (lw_at lw_m13 239 rfl) rfl
theorem q3217 : (Jvm.Cond.arrayClass Jvm.ClassFile.FieldType.short) ∈ lw_all := lw_g (lw_at lw_m14 0 rfl) rfl
