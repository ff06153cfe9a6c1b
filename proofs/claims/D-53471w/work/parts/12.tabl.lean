/-! Lemmas by which the link tables' rows are proved -/
set_option maxRecDepth 100000
theorem gCl_of {i : Nat} {e : gCE} (he : gCls[i]? = some e) : gCl[i]? = some e.1 := by rw [gCl_eq, List.getElem?_map, he]; rfl
theorem FG.mk' {own : String} {idx i k : Nat} {e : gCE} {ref : String} (h27 : i < 27) (h15 : i ≠ 15) (he : gCls[i]? = some e) (hk : k < e.1.2.2) (w : Cond.fieldLink own idx ref (e.1.2.1 k).2.1 (e.1.2.1 k).2.2.1 ∈ lw_all ∨ ∃ host, Cond.fieldLinkNest own idx ref (e.1.2.1 k).2.1 (e.1.2.1 k).2.2.1 host ∈ lw_tbl) (hs : ref = (e.1.2.1 k).1 ∨ Cond.sameField ref (e.1.2.1 k).1 (e.1.2.1 k).2.1 (e.1.2.1 k).2.2.1 ∈ lw_all) {tag : Nat} (ht : tag = i + 1 ∨ tag = i + 201) : FG own idx tag k := by
  intro X s args hts hK
  have hcl := gCl_of he
  obtain ⟨hS, hfc, kC, hkC, hkind⟩ := hK.1 i e.1 h15 hcl
  obtain ⟨cf, kf, fi, f, hi, hsl⟩ := hS k hk
  have hok := gCls_ok i e h15 he
  refine ⟨ref, (e.1.2.1 k).2.1, (e.1.2.1 k).2.2.1, cf, kf, fi, f, i, e.1, ?_, ?_, (u_facts hfc hkC (u_lays hts hok.1 hk) hi).1, ht, h27, hcl, hk, hsl⟩
  · rcases w with w | ⟨host, w⟩
    · exact Or.inl (hts _ w)
    · exact Or.inr ⟨host, va_Nw.use rfl (hK.2.2.2.1 _ w rfl)⟩
  · rcases hs with rfl | hs
    · exact hi
    · exact u_same (hts _ hs) _ hi
theorem FG.str {idx k : Nat} (hk : k < 2) (w : Cond.fieldLink "java/lang/String" idx "java/lang/String" (TJ9 k).2.1 (TJ9 k).2.2.1 ∈ lw_all) : FG "java/lang/String" idx 216 k := by
  intro X s args hts hK
  obtain ⟨cf, kf, fi, f, h1, h2, h3⟩ := hK.2.1.2 k hk
  refine ⟨"java/lang/String", (TJ9 k).2.1, (TJ9 k).2.2.1, cf, kf, fi, f, 15, (RJ9, TJ9, 2), Or.inl (hts _ w), ?_, h2, Or.inr rfl, by decide, rfl, hk, h3⟩
  have : (TJ9 k).1 = "java/lang/String" := by
    match k, hk with
    | 0, _ => rfl
    | 1, _ => rfl
  rw [this] at h1
  exact h1
theorem PG.mk' {own : String} {idx i k : Nat} {e : gCE} {ref : String} {ty : FieldType} {fin : Bool} (h27 : i < 27) (h15 : i ≠ 15) (he : gCls[i]? = some e) (hk : k < e.1.2.2) (w : Cond.fieldLink own idx ref (e.1.2.1 k).2.1 (e.1.2.1 k).2.2.1 ∈ lw_all ∨ ∃ host, Cond.fieldLinkNest own idx ref (e.1.2.1 k).2.1 (e.1.2.1 k).2.2.1 host ∈ lw_tbl) (hs : ref = (e.1.2.1 k).1 ∨ Cond.sameField ref (e.1.2.1 k).1 (e.1.2.1 k).2.1 (e.1.2.1 k).2.2.1 ∈ lw_all) (hty : e.2.1 k = ty) (hf : (e.1.2.1 k).2.2.2 = fin) (hfo : fin = true → own = (e.1.2.1 k).1) : PG own idx (i + 1) k ty fin := by
  intro X s args hts hK
  have hcl := gCl_of he
  obtain ⟨hS, hfc, kC, hkC, hkind⟩ := hK.1 i e.1 h15 hcl
  obtain ⟨cf, kf, fi, f, hi, hsl⟩ := hS k hk
  have hok := gCls_ok i e h15 he
  have hlay := u_lays hts hok.1 hk
  have hd := hok.2.1 k hk
  rw [hty] at hd
  have hlk := hts _ (hok.1 _ (u_in_lay (C := e.1.1) hk))
  unfold u_lay at hlk
  refine ⟨ref, (e.1.2.1 k).2.1, (e.1.2.1 k).2.2.1, cf, kf, fi, f, i, e.1, ?_, ?_, (u_facts hfc hkC hlay hi).1, rfl, h27, hcl, hk, hsl, fun hfin => ?_, fun hfin mcls hm => ?_, fun v hn hfit => ?_, fun x y hx hy hne => ?_⟩
  · rcases w with w | ⟨host, w⟩
    · exact Or.inl (hts _ w)
    · exact Or.inr ⟨host, va_Nw.use rfl (hK.2.2.2.1 _ w rfl)⟩
  · rcases hs with rfl | hs
    · exact hi
    · exact u_same (hts _ hs) _ hi
  · rw [if_neg (by rw [hf, hfin]; decide)] at hlk
    obtain ⟨_, _, _, _, _, _, r1, r2, hi', hst, hfinal, _⟩ := Cond.lays_spec hlk
    cases hi.symm.trans hi'
    exact hfinal
  · rw [if_pos (by rw [hf, hfin])] at hlk
    obtain ⟨_, _, c', _, _, _, -, -, hf', -, -, -, hown2, -⟩ := Cond.laysFinal_spec hlk
    have e1 : c' = cf := by have := hi.symm.trans hf'; simp at this; exact this.1.symm
    rw [← hfo hfin] at hown2
    rw [← e1]; exact Option.some.inj (hm.symm.trans hown2)
  · have := u_fits hfc hkC hkind hlay hi hd hn hfit
    exact this
  · obtain ⟨_, _, _, fa, hia, ea⟩ := hS x hx
    obtain ⟨_, _, _, fb, hib, eb⟩ := hS y hy
    rw [← ea, ← eb]
    refine u_apart (u_lays hts hok.1 hx) (u_lays hts hok.1 hy) hia hib ?_
    rw [(State.fieldFound?_type hia (hok.2.1 x hx)).1, (State.fieldFound?_type hib (hok.2.1 y hy)).1]
    exact hok.2.2.1 x hx y hy hne
