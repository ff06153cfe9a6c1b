/-! A contract out of a walk from the method's entry -/
set_option maxRecDepth 100000
def gEnt : List Value → Nat → List (Option Value)
  | [], n => List.replicate n none
  | v :: t, n => some v :: (if isC2 v then none :: gEnt t (n - 2) else gEnt t (n - 1))
theorem isC2_2 {v : Value} (h : isC2 v = true) : v.category = 2 := by cases v <;> first | rfl | cases h
theorem gEnt_args : ∀ (vs : List Value) (n i j : Nat) (w : Value), (gEnt vs n)[j]? = some (some w) → (i + j, w) ∈ lv_args i vs := by
  intro vs
  induction vs with
  | nil =>
    intro n i j w h
    simp [gEnt, List.getElem?_replicate] at h
  | cons v t ih =>
    intro n i j w h
    unfold gEnt at h
    cases j with
    | zero =>
      simp at h
      subst h
      unfold lv_args
      simp
    | succ j =>
      rw [List.getElem?_cons_succ] at h
      by_cases hc : isC2 v = true
      · rw [if_pos hc] at h
        cases j with
        | zero => simp at h
        | succ j =>
          rw [List.getElem?_cons_succ] at h
          have := ih (n - 2) (i + 2) j w h
          unfold lv_args
          rw [isC2_2 hc]
          refine List.mem_cons_of_mem _ ?_
          rw [show i + (j + 1 + 1) = i + 2 + j by omega]
          exact this
      · rw [if_neg hc] at h
        have := ih (n - 1) (i + 1) j w h
        unfold lv_args
        rw [isC2_1 (by simpa using hc)]
        refine List.mem_cons_of_mem _ ?_
        rw [show i + (j + 1) = i + 1 + j by omega]
        exact this
theorem Tri.of {X : gX} {Y : gM} {d : Nat} {Q : Option Value → gH → Prop} {k n : Nat} {G : gH} {args : List Value} (hp : plainName (my Y).cls = true) (hl : (lg_sl args).length ≤ mL Y) (h : Wp X Y d Q k n G 0 (gEnt args (mL Y)) []) : Tri X d Y args k n G Q := by
  intro lc
  refine Met.ofW (cc := mc Y) (maxL := mL Y) (ret := mr Y) hp rfl ?_
  intro p e s m args0 below meth c s₁ B hml hv
  obtain ⟨rfl, hR, hK⟩ := hv
  have hts := atoms_spec (ws := ws_ (my Y) (mc Y) (mL Y) (mr Y)) B.pre
  have hts : ∀ w ∈ lw_all, w.before _ s = true := fun w h => hts w (List.mem_cons_of_mem _ h)
  have hown : s.vm.findClass (my Y).cls = some m.cls := findClass_of_methodNamed B.named
  have hnm : meth.name = (my Y).name := (name_of_methodNamed B.named B.method).1
  have hL := lv_entry args (n := mL Y) hl
  rw [lg_entry_eq]
  exact h p lc e _ s m _ below meth c k n ⟨B.exec, B.bytes, B.returns, B.notSynchronized, hml, hown, hnm, hts, hK, Nat.le_refl d, Nat.le_refl _, hR.2.1, hR.2.2.1⟩ (Nat.le_refl k) (Nat.le_refl n) s.heap [] 0 0 _ hR (Nat.le_refl _) (fun q hq => by cases hq) (by omega) (by omega) ⟨hL.1, hL.2.1, fun i v hv => by
    have := gEnt_args args (mL Y) 0 i v hv
    rw [Nat.zero_add] at this
    exact hL.2.2 _ this⟩
