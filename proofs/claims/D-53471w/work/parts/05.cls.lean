/-! the classes that are made: tag = place + 1 -/
set_option maxRecDepth 100000
abbrev gCE : Type := vw_C × (Nat → FieldType) × List Value
def TJ9 : u_T := fun k => match k with
  | 0 => ("java/lang/String", "value", "[B", true)
  | _ => ("java/lang/String", "coder", "B", true)
def tyJ9 : Nat → FieldType := fun k => match k with
  | 0 => .array .byte
  | _ => .byte
def gCls : List gCE := [
  ((RX0, TX0, 4), tyX0, [.null, .null, .null, .null]),
  ((RX1, TX1, 6), tyX1, [.null, .null, .null, .null, .null, .int 0]),
  ((RX2, TX2, 2), tyX2, [.null, .int 0]),
  ((RX3, TX3, 10), tyX3, [.null, .null, .null, .null, .null, .null, .int 0, .int 0, .int 0, .int 0]),
  ((RX4, TX4, 19), tyX4, [.null, .null, .null, .null, .null, .int 0, .int 0, .int 0, .null, .null, .null, .int 0, .int 0, .int 0, .null, .int 0, .int 0, .int 0, .int 0]),
  ((RX5, TX5, 9), tyX5, [.int 0, .null, .int 0, .null, .int 0, .int 0, .int 0, .int 0, .int 0]),
  ((RX6, TX6, 7), tyX6, [.int 0, .int 0, .int 0, .int 0, .null, .int 0, .int 0]),
  ((RX7, TX7, 1), tyX7, [.int 0]),
  ((RX8, TX8, 1), tyX8, [.null]),
  ((RX9, TX9, 1), tyX9, [.null]),
  ((RX10, TX10, 6), tyX10, [.null, .int 0, .int 0, .int 0, .int 0, .null]),
  ((RJ2, TJ2, 3), tyJ2, [.int 0, .null, .int 0]),
  ((RJ5, TJ5, 12), tyJ5, [.null, .null, .int 0, .int 0, .int 0, .float 0, .null, .null, .null, .null, .int 0, .int 0]),
  ((RJ6, TJ6, 3), tyJ6, [.null, .int 0, .int 0]),
  ((RJ8, TJ8, 4), tyJ8, [.null, .int 0, .int 0, .int 0]),
  ((RJ9, TJ9, 2), tyJ9, [.null, .int 0]),
  ((RJ11, TJ11, 4), tyJ11, [.int 0, .int 0, .int 0, .null]),
  ((RJ12, TJ12, 9), tyJ12, [.null, .null, .null, .null, .int 0, .int 0, .null, .null, .null]),
  ((RJ15, TJ15, 1), tyJ15, [.null]),
  ((RJ18, TJ18, 1), tyJ18, [.int 0]),
  ((RJ23, TJ23, 5), tyJ23, [.null, .null, .int 0, .int 0, .null]),
  ((RJ25, TJ25, 2), tyJ25, [.int 0, .null]),
  ((RJ28, TJ28, 4), tyJ28, [.null, .null, .int 0, .null]),
  ((RJ32, TJ32, 6), tyJ32, [.int 0, .null, .null, .null, .null, .null]),
  ((RJ40, TJ40, 6), tyJ40, [.null, .null, .null, .null, .null, .int 0]),
  ((RJ41, TJ41, 1), tyJ41, [.null]),
  ((RJ43, TJ43, 4), tyJ43, [.null, .int 0, .null, .int 0])]
def gCl : List vw_C := [(RX0, TX0, 4), (RX1, TX1, 6), (RX2, TX2, 2), (RX3, TX3, 10), (RX4, TX4, 19), (RX5, TX5, 9), (RX6, TX6, 7), (RX7, TX7, 1), (RX8, TX8, 1), (RX9, TX9, 1), (RX10, TX10, 6), (RJ2, TJ2, 3), (RJ5, TJ5, 12), (RJ6, TJ6, 3), (RJ8, TJ8, 4), (RJ9, TJ9, 2), (RJ11, TJ11, 4), (RJ12, TJ12, 9), (RJ15, TJ15, 1), (RJ18, TJ18, 1), (RJ23, TJ23, 5), (RJ25, TJ25, 2), (RJ28, TJ28, 4), (RJ32, TJ32, 6), (RJ40, TJ40, 6), (RJ41, TJ41, 1), (RJ43, TJ43, 4)]
def gClOK (e : gCE) : Prop := (∀ w ∈ u_ws e.1.1 e.1.2.1 e.1.2.2, w ∈ lw_all) ∧ (∀ k, k < e.1.2.2 → parseFieldDescriptor (e.1.2.1 k).2.2.1 = some (e.2.1 k)) ∧ (∀ a, a < e.1.2.2 → ∀ b, b < e.1.2.2 → a ≠ b → (e.1.2.1 a).2.1 ≠ (e.1.2.1 b).2.1) ∧ ∀ k, k < e.1.2.2 → defaultValue (e.2.1 k) = vp_V e.2.2 k
theorem gCl_eq : gCl = gCls.map (fun e => e.1) := rfl
theorem gk_X0 : gClOK ((RX0, TX0, 4), tyX0, [.null, .null, .null, .null]) := ⟨in_X0, tyX0_ok, nmX0, by decide +kernel⟩
theorem gk_X1 : gClOK ((RX1, TX1, 6), tyX1, [.null, .null, .null, .null, .null, .int 0]) := ⟨in_X1, tyX1_ok, nmX1, by decide +kernel⟩
theorem gk_X2 : gClOK ((RX2, TX2, 2), tyX2, [.null, .int 0]) := ⟨in_X2, tyX2_ok, nmX2, by decide +kernel⟩
theorem gk_X3 : gClOK ((RX3, TX3, 10), tyX3, [.null, .null, .null, .null, .null, .null, .int 0, .int 0, .int 0, .int 0]) := ⟨in_X3, tyX3_ok, nmX3, by decide +kernel⟩
theorem gk_X4 : gClOK ((RX4, TX4, 19), tyX4, [.null, .null, .null, .null, .null, .int 0, .int 0, .int 0, .null, .null, .null, .int 0, .int 0, .int 0, .null, .int 0, .int 0, .int 0, .int 0]) := ⟨in_X4, tyX4_ok, nmX4, by decide +kernel⟩
theorem gk_X5 : gClOK ((RX5, TX5, 9), tyX5, [.int 0, .null, .int 0, .null, .int 0, .int 0, .int 0, .int 0, .int 0]) := ⟨in_X5, tyX5_ok, nmX5, by decide +kernel⟩
theorem gk_X6 : gClOK ((RX6, TX6, 7), tyX6, [.int 0, .int 0, .int 0, .int 0, .null, .int 0, .int 0]) := ⟨in_X6, tyX6_ok, nmX6, by decide +kernel⟩
theorem gk_X7 : gClOK ((RX7, TX7, 1), tyX7, [.int 0]) := ⟨in_X7, tyX7_ok, nmX7, by decide +kernel⟩
theorem gk_X8 : gClOK ((RX8, TX8, 1), tyX8, [.null]) := ⟨in_X8, tyX8_ok, nmX8, by decide +kernel⟩
theorem gk_X9 : gClOK ((RX9, TX9, 1), tyX9, [.null]) := ⟨in_X9, tyX9_ok, nmX9, by decide +kernel⟩
theorem gk_X10 : gClOK ((RX10, TX10, 6), tyX10, [.null, .int 0, .int 0, .int 0, .int 0, .null]) := ⟨in_X10, tyX10_ok, nmX10, by decide +kernel⟩
theorem gk_J2 : gClOK ((RJ2, TJ2, 3), tyJ2, [.int 0, .null, .int 0]) := ⟨in_J2, tyJ2_ok, nmJ2, by decide +kernel⟩
theorem gk_J5 : gClOK ((RJ5, TJ5, 12), tyJ5, [.null, .null, .int 0, .int 0, .int 0, .float 0, .null, .null, .null, .null, .int 0, .int 0]) := ⟨in_J5, tyJ5_ok, nmJ5, by decide +kernel⟩
theorem gk_J6 : gClOK ((RJ6, TJ6, 3), tyJ6, [.null, .int 0, .int 0]) := ⟨in_J6, tyJ6_ok, nmJ6, by decide +kernel⟩
theorem gk_J8 : gClOK ((RJ8, TJ8, 4), tyJ8, [.null, .int 0, .int 0, .int 0]) := ⟨in_J8, tyJ8_ok, nmJ8, by decide +kernel⟩
theorem gk_J11 : gClOK ((RJ11, TJ11, 4), tyJ11, [.int 0, .int 0, .int 0, .null]) := ⟨in_J11, tyJ11_ok, nmJ11, by decide +kernel⟩
theorem gk_J12 : gClOK ((RJ12, TJ12, 9), tyJ12, [.null, .null, .null, .null, .int 0, .int 0, .null, .null, .null]) := ⟨in_J12, tyJ12_ok, nmJ12, by decide +kernel⟩
theorem gk_J15 : gClOK ((RJ15, TJ15, 1), tyJ15, [.null]) := ⟨in_J15, tyJ15_ok, nmJ15, by decide +kernel⟩
theorem gk_J18 : gClOK ((RJ18, TJ18, 1), tyJ18, [.int 0]) := ⟨in_J18, tyJ18_ok, nmJ18, by decide +kernel⟩
theorem gk_J23 : gClOK ((RJ23, TJ23, 5), tyJ23, [.null, .null, .int 0, .int 0, .null]) := ⟨in_J23, tyJ23_ok, nmJ23, by decide +kernel⟩
theorem gk_J25 : gClOK ((RJ25, TJ25, 2), tyJ25, [.int 0, .null]) := ⟨in_J25, tyJ25_ok, nmJ25, by decide +kernel⟩
theorem gk_J28 : gClOK ((RJ28, TJ28, 4), tyJ28, [.null, .null, .int 0, .null]) := ⟨in_J28, tyJ28_ok, nmJ28, by decide +kernel⟩
theorem gk_J32 : gClOK ((RJ32, TJ32, 6), tyJ32, [.int 0, .null, .null, .null, .null, .null]) := ⟨in_J32, tyJ32_ok, nmJ32, by decide +kernel⟩
theorem gk_J40 : gClOK ((RJ40, TJ40, 6), tyJ40, [.null, .null, .null, .null, .null, .int 0]) := ⟨in_J40, tyJ40_ok, nmJ40, by decide +kernel⟩
theorem gk_J41 : gClOK ((RJ41, TJ41, 1), tyJ41, [.null]) := ⟨in_J41, tyJ41_ok, nmJ41, by decide +kernel⟩
theorem gk_J43 : gClOK ((RJ43, TJ43, 4), tyJ43, [.null, .int 0, .null, .int 0]) := ⟨in_J43, tyJ43_ok, nmJ43, by decide +kernel⟩
theorem gCls_ok : ∀ c e, c ≠ 15 → gCls[c]? = some e → gClOK e
  | 0, _, _, h => Option.some.inj h ▸ gk_X0
  | 1, _, _, h => Option.some.inj h ▸ gk_X1
  | 2, _, _, h => Option.some.inj h ▸ gk_X2
  | 3, _, _, h => Option.some.inj h ▸ gk_X3
  | 4, _, _, h => Option.some.inj h ▸ gk_X4
  | 5, _, _, h => Option.some.inj h ▸ gk_X5
  | 6, _, _, h => Option.some.inj h ▸ gk_X6
  | 7, _, _, h => Option.some.inj h ▸ gk_X7
  | 8, _, _, h => Option.some.inj h ▸ gk_X8
  | 9, _, _, h => Option.some.inj h ▸ gk_X9
  | 10, _, _, h => Option.some.inj h ▸ gk_X10
  | 11, _, _, h => Option.some.inj h ▸ gk_J2
  | 12, _, _, h => Option.some.inj h ▸ gk_J5
  | 13, _, _, h => Option.some.inj h ▸ gk_J6
  | 14, _, _, h => Option.some.inj h ▸ gk_J8
  | 15, _, h15, _ => absurd rfl h15
  | 16, _, _, h => Option.some.inj h ▸ gk_J11
  | 17, _, _, h => Option.some.inj h ▸ gk_J12
  | 18, _, _, h => Option.some.inj h ▸ gk_J15
  | 19, _, _, h => Option.some.inj h ▸ gk_J18
  | 20, _, _, h => Option.some.inj h ▸ gk_J23
  | 21, _, _, h => Option.some.inj h ▸ gk_J25
  | 22, _, _, h => Option.some.inj h ▸ gk_J28
  | 23, _, _, h => Option.some.inj h ▸ gk_J32
  | 24, _, _, h => Option.some.inj h ▸ gk_J40
  | 25, _, _, h => Option.some.inj h ▸ gk_J41
  | 26, _, _, h => Option.some.inj h ▸ gk_J43
  | n + 27, _, _, h => by simp [gCls] at h
