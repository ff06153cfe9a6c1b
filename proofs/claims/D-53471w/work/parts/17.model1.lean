/-! THE MODEL 1: its picture, its small methods -/
set_option maxRecDepth 100000
theorem gm_pe {G : gH} {a k : Nat} {v : Value} : gm (gput G a k v) a k = v := by rw [gm_put, if_pos ⟨rfl, rfl⟩]
theorem gm_pn {G : gH} {a k b j : Nat} {v : Value} (h : ¬ (b = a ∧ j = k)) : gm (gput G a k v) b j = gm G b j := by rw [gm_put, if_neg h]
abbrev i32 (z : Int) : Prop := -2147483648 ≤ z ∧ z < 2147483648
/-- where the array of a field lies behind the object, and its length -/
def mAd (f : Nat) : Nat := match f with
  | 0 => 1 | 1 => 2 | 2 => 3 | 3 => 4 | 4 => 5 | 8 => 6 | 9 => 7 | 10 => 8 | 14 => 9 | _ => 0
/-- an int array (tag 102) with the values of a function -/
def IA (G : gH) (a : Nat) (t n : Nat) (f : Int → Int) : Prop := gc G a = t ∧ gl G a = n ∧ ∀ z : Int, 0 ≤ z → z < n → gm G a z.toNat = .int (iI (f z)) ∧ i32 (f z)
theorem IA.put {G : gH} {a t n : Nat} {f : Int → Int} (h : IA G a t n f) {z v : Int} (h0 : 0 ≤ z) (hv : i32 v) : IA (gput G a z.toNat (.int (iI v))) a t n (fun j => if j = z then v else f j) := by
  refine ⟨h.1, h.2.1, fun j j0 jn => ?_⟩
  rw [gm_put]
  by_cases hj : j = z
  · subst hj
    simp only [and_self, if_true]
    exact ⟨trivial, hv⟩
  · have : ¬ (j.toNat = z.toNat) := by omega
    simp only [this, and_false, if_false, hj]
    exact h.2.2 j j0 jn
theorem IA.keep {G G' : gH} {a t n : Nat} {f : Int → Int} (h : IA G a t n f) (hc : gc G' a = gc G a) (hl : gl G' a = gl G a) (hm : ∀ j, gm G' a j = gm G a j) : IA G' a t n f :=
  ⟨hc.trans h.1, hl.trans h.2.1, fun z h0 h1 => by rw [hm]; exact h.2.2 z h0 h1⟩
/-- the model at o: its arrays right behind it; M f: the array of field f; V f: the number of field f -/
def MR (G : gH) (o : Nat) (M : Nat → Int → Int) (V : Nat → Int) : Prop :=
  (gc G o = 5 ∧ gm G o 0 = .ref (o + 1) ∧ gm G o 1 = .ref (o + 2) ∧ gm G o 2 = .ref (o + 3) ∧ gm G o 3 = .ref (o + 4) ∧ gm G o 4 = .ref (o + 5) ∧ gm G o 8 = .ref (o + 6) ∧ gm G o 9 = .ref (o + 7) ∧ gm G o 10 = .ref (o + 8) ∧ gm G o 14 = .ref (o + 9)) ∧
  (∀ f, f ∈ [5, 6, 7, 11, 12, 13, 15, 16, 17, 18] → gm G o f = .int (iI (V f)) ∧ i32 (V f)) ∧
  IA G (o + 1) 102 379 (M 0) ∧ IA G (o + 2) 102 379 (M 1) ∧ IA G (o + 3) 102 379 (M 2) ∧ IA G (o + 4) 102 1516 (M 3) ∧ IA G (o + 5) 102 60 (M 4) ∧ IA G (o + 6) 102 162 (M 8) ∧ IA G (o + 7) 103 162 (M 9) ∧ IA G (o + 8) 102 330 (M 10) ∧ IA G (o + 9) 102 3 (M 14)
/-- the facts of it, for simp -/
theorem MR.f {G : gH} {o : Nat} {M : Nat → Int → Int} {V : Nat → Int} (h : MR G o M V) :
  (gc G o = 5 ∧ gm G o 0 = .ref (o + 1) ∧ gm G o 1 = .ref (o + 2) ∧ gm G o 2 = .ref (o + 3) ∧ gm G o 3 = .ref (o + 4) ∧ gm G o 4 = .ref (o + 5) ∧ gm G o 8 = .ref (o + 6) ∧ gm G o 9 = .ref (o + 7) ∧ gm G o 10 = .ref (o + 8) ∧ gm G o 14 = .ref (o + 9)) ∧
  (gm G o 5 = .int (iI (V 5)) ∧ gm G o 6 = .int (iI (V 6)) ∧ gm G o 7 = .int (iI (V 7)) ∧ gm G o 11 = .int (iI (V 11)) ∧ gm G o 12 = .int (iI (V 12)) ∧ gm G o 13 = .int (iI (V 13)) ∧ gm G o 15 = .int (iI (V 15)) ∧ gm G o 16 = .int (iI (V 16)) ∧ gm G o 17 = .int (iI (V 17)) ∧ gm G o 18 = .int (iI (V 18))) ∧
  (gc G (o + 1) = 102 ∧ gc G (o + 2) = 102 ∧ gc G (o + 3) = 102 ∧ gc G (o + 4) = 102 ∧ gc G (o + 5) = 102 ∧ gc G (o + 6) = 102 ∧ gc G (o + 7) = 103 ∧ gc G (o + 8) = 102 ∧ gc G (o + 9) = 102) ∧
  (gl G (o + 1) = 379 ∧ gl G (o + 2) = 379 ∧ gl G (o + 3) = 379 ∧ gl G (o + 4) = 1516 ∧ gl G (o + 5) = 60 ∧ gl G (o + 6) = 162 ∧ gl G (o + 7) = 162 ∧ gl G (o + 8) = 330 ∧ gl G (o + 9) = 3) ∧
  (∀ z : Int, 0 ≤ z → z < 379 → gm G (o + 1) z.toNat = .int (iI (M 0 z))) ∧ (∀ z : Int, 0 ≤ z → z < 379 → gm G (o + 2) z.toNat = .int (iI (M 1 z))) ∧ (∀ z : Int, 0 ≤ z → z < 379 → gm G (o + 3) z.toNat = .int (iI (M 2 z))) ∧ (∀ z : Int, 0 ≤ z → z < 1516 → gm G (o + 4) z.toNat = .int (iI (M 3 z))) ∧ (∀ z : Int, 0 ≤ z → z < 60 → gm G (o + 5) z.toNat = .int (iI (M 4 z))) ∧ (∀ z : Int, 0 ≤ z → z < 162 → gm G (o + 6) z.toNat = .int (iI (M 8 z))) ∧ (∀ z : Int, 0 ≤ z → z < 162 → gm G (o + 7) z.toNat = .int (iI (M 9 z))) ∧ (∀ z : Int, 0 ≤ z → z < 330 → gm G (o + 8) z.toNat = .int (iI (M 10 z))) ∧ (∀ z : Int, 0 ≤ z → z < 3 → gm G (o + 9) z.toNat = .int (iI (M 14 z))) ∧ gm G (o + 1) 0 = .int (iI (M 0 0)) ∧ gm G (o + 1) 1 = .int (iI (M 0 1)) ∧ gm G (o + 1) 2 = .int (iI (M 0 2)) ∧ gm G (o + 1) 3 = .int (iI (M 0 3)) ∧ gm G (o + 1) 4 = .int (iI (M 0 4)) ∧ gm G (o + 1) 5 = .int (iI (M 0 5)) ∧ gm G (o + 1) 6 = .int (iI (M 0 6)) := by
  obtain ⟨h1, h2, a1, a2, a3, a4, a5, a6, a7, a8, a9⟩ := h
  exact ⟨h1, ⟨(h2 5 (by decide)).1, (h2 6 (by decide)).1, (h2 7 (by decide)).1, (h2 11 (by decide)).1, (h2 12 (by decide)).1, (h2 13 (by decide)).1, (h2 15 (by decide)).1, (h2 16 (by decide)).1, (h2 17 (by decide)).1, (h2 18 (by decide)).1⟩,
    ⟨a1.1, a2.1, a3.1, a4.1, a5.1, a6.1, a7.1, a8.1, a9.1⟩, ⟨a1.2.1, a2.2.1, a3.2.1, a4.2.1, a5.2.1, a6.2.1, a7.2.1, a8.2.1, a9.2.1⟩,
    fun z p q => (a1.2.2 z p q).1, fun z p q => (a2.2.2 z p q).1, fun z p q => (a3.2.2 z p q).1, fun z p q => (a4.2.2 z p q).1, fun z p q => (a5.2.2 z p q).1, fun z p q => (a6.2.2 z p q).1, fun z p q => (a7.2.2 z p q).1, fun z p q => (a8.2.2 z p q).1, fun z p q => (a9.2.2 z p q).1, (a1.2.2 0 (by decide) (by decide)).1, (a1.2.2 1 (by decide) (by decide)).1, (a1.2.2 2 (by decide) (by decide)).1, (a1.2.2 3 (by decide) (by decide)).1, (a1.2.2 4 (by decide) (by decide)).1, (a1.2.2 5 (by decide) (by decide)).1, (a1.2.2 6 (by decide) (by decide)).1⟩
/-- nothing but the model's own cells changes -/
def MK (G G' : gH) (o : Nat) : Prop := gs G' = gs G ∧ gc G' = gc G ∧ gl G' = gl G ∧ ∀ a, (a < o ∨ o + 9 < a) → gm G' a = gm G a
theorem MK.refl {G : gH} {o : Nat} : MK G G o := ⟨rfl, rfl, rfl, fun _ _ => rfl⟩
theorem MK.trans {G G' G'' : gH} {o : Nat} (h : MK G G' o) (h' : MK G' G'' o) : MK G G'' o := ⟨h'.1.trans h.1, h'.2.1.trans h.2.1, h'.2.2.1.trans h.2.2.1, fun a ha => (h'.2.2.2 a ha).trans (h.2.2.2 a ha)⟩
theorem MK.put {G G' : gH} {o a j : Nat} {v : Value} (h : MK G G' o) (ha : o ≤ a ∧ a ≤ o + 9) : MK G (gput G' a j v) o := ⟨h.1, h.2.1, h.2.2.1, fun b hb => by
  rw [← h.2.2.2 b hb]
  funext i
  rw [gm_put, if_neg (fun q => by omega)]⟩
def uM (M : Nat → Int → Int) (f : Nat) (z v : Int) : Nat → Int → Int := fun g j => if g = f ∧ j = z then v else M g j
def uV (V : Nat → Int) (f : Nat) (v : Int) : Nat → Int := fun g => if g = f then v else V g
theorem IA.off {G : gH} {a t n : Nat} {f g : Int → Int} (h : IA G a t n f) {b j : Nat} {v : Value} (hb : a ≠ b) (hf : f = g) : IA (gput G b j v) a t n g :=
  hf ▸ h.keep rfl rfl (fun i => by rw [gm_put, if_neg (fun q => hb q.1)])
/-- a field that is a number is written -/
theorem MR.putV {G : gH} {o : Nat} {M : Nat → Int → Int} {V : Nat → Int} (h : MR G o M V) {f : Nat} {v : Int} (hf : f ∈ [5, 6, 7, 11, 12, 13, 15, 16, 17, 18]) (hv : i32 v) : MR (gput G o f (.int (iI v))) o M (uV V f v) := by
  obtain ⟨⟨h0, h1, h2, h3, h4, h5, h6, h7, h8, h9⟩, hV, a1, a2, a3, a4, a5, a6, a7, a8, a9⟩ := h
  have key : ∀ g, g ≠ f → gm (gput G o f (.int (iI v))) o g = gm G o g := fun g hg => by rw [gm_put, if_neg (fun q => hg q.2)]
  have ne : f ≠ 0 ∧ f ≠ 1 ∧ f ≠ 2 ∧ f ≠ 3 ∧ f ≠ 4 ∧ f ≠ 8 ∧ f ≠ 9 ∧ f ≠ 10 ∧ f ≠ 14 := by
    simp only [List.mem_cons, List.not_mem_nil, or_false] at hf
    omega
  refine ⟨⟨h0, ?_, ?_, ?_, ?_, ?_, ?_, ?_, ?_, ?_⟩, fun g hg => ?_, a1.off (by omega) rfl, a2.off (by omega) rfl, a3.off (by omega) rfl, a4.off (by omega) rfl, a5.off (by omega) rfl, a6.off (by omega) rfl, a7.off (by omega) rfl, a8.off (by omega) rfl, a9.off (by omega) rfl⟩
  · rw [key _ (by omega)]; exact h1
  · rw [key _ (by omega)]; exact h2
  · rw [key _ (by omega)]; exact h3
  · rw [key _ (by omega)]; exact h4
  · rw [key _ (by omega)]; exact h5
  · rw [key _ (by omega)]; exact h6
  · rw [key _ (by omega)]; exact h7
  · rw [key _ (by omega)]; exact h8
  · rw [key _ (by omega)]; exact h9
  · by_cases hgf : g = f
    · subst hgf
      simp only [gm_put, uV, and_self, if_true]
      exact ⟨trivial, hv⟩
    · rw [key g hgf]
      simp only [uV, hgf, if_false]
      exact hV g hg
/-- a place of an array is written -/
theorem MR.putA {G : gH} {o : Nat} {M : Nat → Int → Int} {V : Nat → Int} (h : MR G o M V) (f : Nat) {z v : Int} (hf : f ∈ [0, 1, 2, 3, 4, 8, 9, 10, 14]) (h0 : 0 ≤ z) (hv : i32 v) : MR (gput G (o + mAd f) z.toNat (.int (iI v))) o (uM M f z v) V := by
  obtain ⟨h1, hV, a1, a2, a3, a4, a5, a6, a7, a8, a9⟩ := h
  have e1 : ∀ g, g ≠ f → M g = uM M f z v g := fun g hg => by funext j; simp [uM, hg]
  have e2 : (fun j => if j = z then v else M f j) = uM M f z v f := by funext j; simp [uM]
  have kf : ∀ g, gm (gput G (o + mAd f) z.toNat (.int (iI v))) o g = gm G o g := fun g => by
    rw [gm_put, if_neg]
    rintro ⟨q, -⟩
    simp only [List.mem_cons, List.not_mem_nil, or_false] at hf
    rcases hf with rfl | rfl | rfl | rfl | rfl | rfl | rfl | rfl | rfl <;> simp [mAd] at q
  refine ⟨by simp only [gc_put, kf]; exact h1, fun g hg => by rw [kf]; exact hV g hg, ?_⟩
  simp only [List.mem_cons, List.not_mem_nil, or_false] at hf
  rcases hf with rfl | rfl | rfl | rfl | rfl | rfl | rfl | rfl | rfl
  · exact ⟨e2 ▸ a1.put h0 hv, a2.off (by simp [mAd]) (e1 _ (by decide)), a3.off (by simp [mAd]) (e1 _ (by decide)), a4.off (by simp [mAd]) (e1 _ (by decide)), a5.off (by simp [mAd]) (e1 _ (by decide)), a6.off (by simp [mAd]) (e1 _ (by decide)), a7.off (by simp [mAd]) (e1 _ (by decide)), a8.off (by simp [mAd]) (e1 _ (by decide)), a9.off (by simp [mAd]) (e1 _ (by decide))⟩
  · exact ⟨a1.off (by simp [mAd]) (e1 _ (by decide)), e2 ▸ a2.put h0 hv, a3.off (by simp [mAd]) (e1 _ (by decide)), a4.off (by simp [mAd]) (e1 _ (by decide)), a5.off (by simp [mAd]) (e1 _ (by decide)), a6.off (by simp [mAd]) (e1 _ (by decide)), a7.off (by simp [mAd]) (e1 _ (by decide)), a8.off (by simp [mAd]) (e1 _ (by decide)), a9.off (by simp [mAd]) (e1 _ (by decide))⟩
  · exact ⟨a1.off (by simp [mAd]) (e1 _ (by decide)), a2.off (by simp [mAd]) (e1 _ (by decide)), e2 ▸ a3.put h0 hv, a4.off (by simp [mAd]) (e1 _ (by decide)), a5.off (by simp [mAd]) (e1 _ (by decide)), a6.off (by simp [mAd]) (e1 _ (by decide)), a7.off (by simp [mAd]) (e1 _ (by decide)), a8.off (by simp [mAd]) (e1 _ (by decide)), a9.off (by simp [mAd]) (e1 _ (by decide))⟩
  · exact ⟨a1.off (by simp [mAd]) (e1 _ (by decide)), a2.off (by simp [mAd]) (e1 _ (by decide)), a3.off (by simp [mAd]) (e1 _ (by decide)), e2 ▸ a4.put h0 hv, a5.off (by simp [mAd]) (e1 _ (by decide)), a6.off (by simp [mAd]) (e1 _ (by decide)), a7.off (by simp [mAd]) (e1 _ (by decide)), a8.off (by simp [mAd]) (e1 _ (by decide)), a9.off (by simp [mAd]) (e1 _ (by decide))⟩
  · exact ⟨a1.off (by simp [mAd]) (e1 _ (by decide)), a2.off (by simp [mAd]) (e1 _ (by decide)), a3.off (by simp [mAd]) (e1 _ (by decide)), a4.off (by simp [mAd]) (e1 _ (by decide)), e2 ▸ a5.put h0 hv, a6.off (by simp [mAd]) (e1 _ (by decide)), a7.off (by simp [mAd]) (e1 _ (by decide)), a8.off (by simp [mAd]) (e1 _ (by decide)), a9.off (by simp [mAd]) (e1 _ (by decide))⟩
  · exact ⟨a1.off (by simp [mAd]) (e1 _ (by decide)), a2.off (by simp [mAd]) (e1 _ (by decide)), a3.off (by simp [mAd]) (e1 _ (by decide)), a4.off (by simp [mAd]) (e1 _ (by decide)), a5.off (by simp [mAd]) (e1 _ (by decide)), e2 ▸ a6.put h0 hv, a7.off (by simp [mAd]) (e1 _ (by decide)), a8.off (by simp [mAd]) (e1 _ (by decide)), a9.off (by simp [mAd]) (e1 _ (by decide))⟩
  · exact ⟨a1.off (by simp [mAd]) (e1 _ (by decide)), a2.off (by simp [mAd]) (e1 _ (by decide)), a3.off (by simp [mAd]) (e1 _ (by decide)), a4.off (by simp [mAd]) (e1 _ (by decide)), a5.off (by simp [mAd]) (e1 _ (by decide)), a6.off (by simp [mAd]) (e1 _ (by decide)), e2 ▸ a7.put h0 hv, a8.off (by simp [mAd]) (e1 _ (by decide)), a9.off (by simp [mAd]) (e1 _ (by decide))⟩
  · exact ⟨a1.off (by simp [mAd]) (e1 _ (by decide)), a2.off (by simp [mAd]) (e1 _ (by decide)), a3.off (by simp [mAd]) (e1 _ (by decide)), a4.off (by simp [mAd]) (e1 _ (by decide)), a5.off (by simp [mAd]) (e1 _ (by decide)), a6.off (by simp [mAd]) (e1 _ (by decide)), a7.off (by simp [mAd]) (e1 _ (by decide)), e2 ▸ a8.put h0 hv, a9.off (by simp [mAd]) (e1 _ (by decide))⟩
  · exact ⟨a1.off (by simp [mAd]) (e1 _ (by decide)), a2.off (by simp [mAd]) (e1 _ (by decide)), a3.off (by simp [mAd]) (e1 _ (by decide)), a4.off (by simp [mAd]) (e1 _ (by decide)), a5.off (by simp [mAd]) (e1 _ (by decide)), a6.off (by simp [mAd]) (e1 _ (by decide)), a7.off (by simp [mAd]) (e1 _ (by decide)), a8.off (by simp [mAd]) (e1 _ (by decide)), e2 ▸ a9.put h0 hv⟩
theorem MR.bA {G : gH} {o : Nat} {M : Nat → Int → Int} {V : Nat → Int} (h : MR G o M V) {z : Int} (h0 : 0 ≤ z) (h1 : z < 379) : i32 (M 0 z) := (h.2.2.1.2.2 z h0 h1).2
theorem MR.bV {G : gH} {o : Nat} {M : Nat → Int → Int} {V : Nat → Int} (h : MR G o M V) (f : Nat) (hf : f ∈ [5, 6, 7, 11, 12, 13, 15, 16, 17, 18]) : i32 (V f) := (h.2.1 f hf).2
/-- a loop that counts up; what it has is known from its counter -/
theorem up0 {W : Int → Prop} {hi : Int} (lo : Int) (step : ∀ i, lo ≤ i → i < hi → W (i + 1) → W i) (ex : W hi) : ∀ i, lo ≤ i → i ≤ hi → W i := by
  have key : ∀ (k : Nat) (i : Int), lo ≤ i → i ≤ hi → (hi - i).toNat = k → W i := by
    intro k
    induction k with
    | zero => intro i h1 h2 h3; have : i = hi := by omega
              subst this; exact ex
    | succ k ih => intro i h1 h2 h3; exact step i h1 (by omega) (ih (i + 1) (by omega) (by omega) (by omega))
  exact fun i h1 h2 => key _ i h1 h2 rfl
/-- a loop that counts up, with a state -/
theorem up1 {σ : Type} {W : Int → σ → Prop} {P : Int → σ → Prop} {hi : Int} (lo : Int) (step : ∀ i s, lo ≤ i → i < hi → P i s → (∀ s', P (i + 1) s' → W (i + 1) s') → W i s) (ex : ∀ s, P hi s → W hi s) : ∀ i s, lo ≤ i → i ≤ hi → P i s → W i s := by
  have key : ∀ (k : Nat) (i : Int) (s : σ), lo ≤ i → i ≤ hi → (hi - i).toNat = k → P i s → W i s := by
    intro k
    induction k with
    | zero => intro i s h1 h2 h3 hp; have : i = hi := by omega
              subst this; exact ex s hp
    | succ k ih => intro i s h1 h2 h3 hp; exact step i s h1 (by omega) hp (fun s' hp' => ih (i + 1) s' (by omega) (by omega) (by omega) hp')
  exact fun i s h1 h2 hp => key _ i s h1 h2 rfl hp
theorem iI_rem {a b : Int} (ha : 0 ≤ a) (ha2 : a < 2147483648) (hb : 0 < b) (hb2 : b < 2147483648) : irm (iI a) (iI b) = iI (a % b) := by
  obtain ⟨m, rfl⟩ := Int.eq_ofNat_of_zero_le ha
  obtain ⟨d, rfl⟩ := Int.eq_ofNat_of_zero_le (Int.le_of_lt hb)
  rw [← iI_of, ← iI_of]
  show Int32.ofNat m - Int32.ofNat m / Int32.ofNat d * Int32.ofNat d = _
  rw [show ((m : Int) % (d : Int)) = ((m % d : Nat) : Int) from by omega, ← iI_of]
  exact pk_rem (a := m) (d := d) (by omega) (by omega) (by omega)
theorem iI_div {a b : Int} (ha : 0 ≤ a) (ha2 : a < 2147483648) (hb : 0 < b) (hb2 : b < 2147483648) : iI a / iI b = iI (a / b) := by
  obtain ⟨m, rfl⟩ := Int.eq_ofNat_of_zero_le ha
  obtain ⟨d, rfl⟩ := Int.eq_ofNat_of_zero_le (Int.le_of_lt hb)
  rw [← iI_of, ← iI_of]
  rw [show ((m : Int) / (d : Int)) = ((m / d : Nat) : Int) from by omega, ← iI_of]
  exact pk_div (a := m) (d := d) (by omega) (by omega) (by omega)
def sumI (f : Int → Int) : Nat → Int
  | 0 => 0
  | n + 1 => sumI f n + f n
theorem sumI_s {f : Int → Int} {i : Int} (h : 0 ≤ i) : sumI f (i + 1).toNat = sumI f i.toNat + f i := by
  rw [show (i + 1).toNat = i.toNat + 1 by omega]
  show sumI f i.toNat + f (i.toNat : Int) = _
  rw [show ((i.toNat : Nat) : Int) = i by omega]
theorem sumI_0 {f : Int → Int} : sumI f (0 : Int).toNat = 0 := rfl
theorem sumI_b {f : Int → Int} (hf : ∀ i, 0 ≤ f i ∧ f i ≤ 1) : ∀ n : Nat, 0 ≤ sumI f n ∧ sumI f n ≤ n
  | 0 => ⟨Int.le_refl 0, Int.le_refl 0⟩
  | n + 1 => by
    have := sumI_b hf n
    have := hf n
    show 0 ≤ sumI f n + f n ∧ sumI f n + f n ≤ _
    omega
section
variable {X : gX} {G : gH} {o : Nat} {M : Nat → Int → Int} {V : Nat → Int}
theorem m_in {v a b : Int} (hv : i32 v) (ha : i32 a) (hb : i32 b) : Tri X 1 Y_X4_in [.int (iI v), .int (iI a), .int (iI b)] 0 0 G (fun r G' => G' = G ∧ r = some (.int (iI (if a ≤ v ∧ v ≤ b then 1 else 0)))) := by
  refine Tri.of (by decide +kernel) (Nat.le_of_ble_eq_true rfl) ?_
  refine exS rfl 12 _ _ _ _ _ _ ?_
  simp (disch := omega) only [exB, Nat.reduceAdd, Nat.reduceSub, Nat.reduceMul, Nat.reduceLeDiff, Nat.reduceLT, Nat.reduceEqDiff, Nat.reduceBEq, Int.reduceAdd, Int.reduceSub, Int.reduceMul, Int.reduceNeg, Int.reduceToNat, Int.reduceLE, Int.reduceLT, Int.reduceEq, Int.reduceGE, Int.reduceGT, ↓reduceIte, reduceCtorEq, cd_X4_in, iI_rt]
  exact ⟨fun h => by rw [if_neg (by omega)], fun h => ⟨fun h' => by rw [if_neg (by omega)], fun h' => by rw [if_pos (by omega)]⟩⟩
theorem m_of {n w : Int} (hM : MR G o M V) (h : 0 ≤ 169 + 9 * n + w ∧ 169 + 9 * n + w < 379) : Tri X 1 Y_X4_of [.ref o, .int (iI n), .int (iI w)] 0 0 G (fun r G' => G' = G ∧ r = some (.int (iI (M 0 (169 + 9 * n + w))))) := by
  refine Tri.of (by decide +kernel) (Nat.le_of_ble_eq_true rfl) ?_
  refine exS rfl 12 _ _ _ _ _ _ ?_
  simp (disch := omega) only [exB, Nat.reduceAdd, Nat.reduceSub, Nat.reduceMul, Nat.reduceLeDiff, Nat.reduceLT, Nat.reduceEqDiff, Nat.reduceBEq, Int.reduceAdd, Int.reduceSub, Int.reduceMul, Int.reduceNeg, Int.reduceToNat, Int.reduceLE, Int.reduceLT, Int.reduceEq, Int.reduceGE, Int.reduceGT, ↓reduceIte, reduceCtorEq, cd_X4_of, hM.f, iI_rt]
  omega
theorem m_isNet {n : Int} (hM : MR G o M V) (hn : i32 n) (h5 : i32 (M 0 5 - 1)) : Tri X 2 Y_X4_isNet [.ref o, .int (iI n)] 0 0 G (fun r G' => G' = G ∧ r = some (.int (iI (if 0 ≤ n ∧ n ≤ M 0 5 - 1 then 1 else 0)))) := by
  refine Tri.of (by decide +kernel) (Nat.le_of_ble_eq_true rfl) ?_
  refine exS rfl 12 _ _ _ _ _ _ ?_
  simp (disch := omega) only [exB, Nat.reduceAdd, Nat.reduceSub, Nat.reduceMul, Nat.reduceLeDiff, Nat.reduceLT, Nat.reduceEqDiff, Nat.reduceBEq, Int.reduceAdd, Int.reduceSub, Int.reduceMul, Int.reduceNeg, Int.reduceToNat, Int.reduceLE, Int.reduceLT, Int.reduceEq, Int.reduceGE, Int.reduceGT, ↓reduceIte, reduceCtorEq, cd_X4_isNet, hM.f, iI_rt]
  refine gCall.of (m_in hn (by decide) h5) (by decide) (by first | omega | decide) (by first | omega | decide) ?_
  rintro r G' ⟨rfl, rfl⟩
  refine exS rfl 2 _ _ _ _ _ _ ?_
  simp only [exB, Nat.reduceAdd, Nat.reduceSub, Nat.reduceMul, Nat.reduceLeDiff, Nat.reduceLT, Nat.reduceEqDiff, Nat.reduceBEq, Int.reduceAdd, Int.reduceSub, Int.reduceMul, Int.reduceNeg, Int.reduceToNat, Int.reduceLE, Int.reduceLT, Int.reduceEq, Int.reduceGE, Int.reduceGT, ↓reduceIte, reduceCtorEq, cd_X4_isNet]
theorem m_isClaim {n : Int} (hM : MR G o M V) (hn : i32 n) (h5 : i32 (M 0 6 - 1)) : Tri X 2 Y_X4_isClaim [.ref o, .int (iI n)] 0 0 G (fun r G' => G' = G ∧ r = some (.int (iI (if 0 ≤ n ∧ n ≤ M 0 6 - 1 then 1 else 0)))) := by
  refine Tri.of (by decide +kernel) (Nat.le_of_ble_eq_true rfl) ?_
  refine exS rfl 12 _ _ _ _ _ _ ?_
  simp (disch := omega) only [exB, Nat.reduceAdd, Nat.reduceSub, Nat.reduceMul, Nat.reduceLeDiff, Nat.reduceLT, Nat.reduceEqDiff, Nat.reduceBEq, Int.reduceAdd, Int.reduceSub, Int.reduceMul, Int.reduceNeg, Int.reduceToNat, Int.reduceLE, Int.reduceLT, Int.reduceEq, Int.reduceGE, Int.reduceGT, ↓reduceIte, reduceCtorEq, cd_X4_isClaim, hM.f, iI_rt]
  refine gCall.of (m_in hn (by decide) h5) (by decide) (by first | omega | decide) (by first | omega | decide) ?_
  rintro r G' ⟨rfl, rfl⟩
  refine exS rfl 2 _ _ _ _ _ _ ?_
  simp only [exB, Nat.reduceAdd, Nat.reduceSub, Nat.reduceMul, Nat.reduceLeDiff, Nat.reduceLT, Nat.reduceEqDiff, Nat.reduceBEq, Int.reduceAdd, Int.reduceSub, Int.reduceMul, Int.reduceNeg, Int.reduceToNat, Int.reduceLE, Int.reduceLT, Int.reduceEq, Int.reduceGE, Int.reduceGT, ↓reduceIte, reduceCtorEq, cd_X4_isClaim]
theorem m_adds {n w b : Int} (hM : MR G o M V) (h : 0 ≤ 169 + 9 * n + w ∧ 169 + 9 * n + w < 379) (hb : i32 (M 0 (169 + 9 * n + w) + b)) : Tri X 1 Y_X4_adds [.ref o, .int (iI n), .int (iI w), .int (iI b)] 0 0 G (fun r G' => r = none ∧ MK G G' o ∧ MR G' o (uM M 0 (169 + 9 * n + w) (M 0 (169 + 9 * n + w) + b)) V) := by
  refine Tri.of (by decide +kernel) (Nat.le_of_ble_eq_true rfl) ?_
  refine exS rfl 20 _ _ _ _ _ _ ?_
  simp (disch := omega) only [exB, Nat.reduceAdd, Nat.reduceSub, Nat.reduceMul, Nat.reduceLeDiff, Nat.reduceLT, Nat.reduceEqDiff, Nat.reduceBEq, Int.reduceAdd, Int.reduceSub, Int.reduceMul, Int.reduceNeg, Int.reduceToNat, Int.reduceLE, Int.reduceLT, Int.reduceEq, Int.reduceGE, Int.reduceGT, ↓reduceIte, reduceCtorEq, cd_X4_adds, hM.f, iI_rt]
  refine ⟨by omega, by omega, by omega, by omega, MK.refl.put (by omega), hM.putA 0 (by decide) (by omega) hb⟩
theorem m_isJoined {n : Int} (hM : MR G o M V) (h : 0 ≤ n ∧ n < 6) : Tri X 2 Y_X4_isJoined [.ref o, .int (iI n)] 0 0 G (fun r G' => G' = G ∧ r = some (.int (iI (if M 0 (169 + 9 * n + 5) = 1 then 1 else 0)))) := by
  refine Tri.of (by decide +kernel) (Nat.le_of_ble_eq_true rfl) ?_
  refine exS rfl 12 _ _ _ _ _ _ ?_
  simp (disch := omega) only [exB, Nat.reduceAdd, Nat.reduceSub, Nat.reduceMul, Nat.reduceLeDiff, Nat.reduceLT, Nat.reduceEqDiff, Nat.reduceBEq, Int.reduceAdd, Int.reduceSub, Int.reduceMul, Int.reduceNeg, Int.reduceToNat, Int.reduceLE, Int.reduceLT, Int.reduceEq, Int.reduceGE, Int.reduceGT, ↓reduceIte, reduceCtorEq, cd_X4_isJoined, hM.f, iI_rt]
  refine gCall.of (m_of hM (n := n) (w := 5) (by omega)) (by decide) (by first | omega | decide) (by first | omega | decide) ?_
  rintro r G' ⟨rfl, rfl⟩
  have hb := hM.bA (z := 169 + 9 * n + 5) (by omega) (by omega)
  refine exS rfl 8 _ _ _ _ _ _ ?_
  simp (disch := omega) only [exB, Nat.reduceAdd, Nat.reduceSub, Nat.reduceMul, Nat.reduceLeDiff, Nat.reduceLT, Nat.reduceEqDiff, Nat.reduceBEq, Int.reduceAdd, Int.reduceSub, Int.reduceMul, Int.reduceNeg, Int.reduceToNat, Int.reduceLE, Int.reduceLT, Int.reduceEq, Int.reduceGE, Int.reduceGT, ↓reduceIte, reduceCtorEq, cd_X4_isJoined, iI_rt]
  grind
theorem m_copy (hM : MR G o M V) : Tri X 1 Y_X4_copy [.ref o] 0 0 G (fun r G' => r = none ∧ MK G G' o ∧ MR G' o (fun f j => if f = 1 ∧ 0 ≤ j ∧ j < 379 then M 0 j else M f j) V) := by
  refine Tri.of (by decide +kernel) (Nat.le_of_ble_eq_true rfl) ?_
  refine exS rfl 2 _ _ _ _ _ _ ?_
  simp (disch := omega) only [exB, Nat.reduceAdd, Nat.reduceSub, Nat.reduceMul, Nat.reduceLeDiff, Nat.reduceLT, Nat.reduceEqDiff, Nat.reduceBEq, Int.reduceAdd, Int.reduceSub, Int.reduceMul, Int.reduceNeg, Int.reduceToNat, Int.reduceLE, Int.reduceLT, Int.reduceEq, Int.reduceGE, Int.reduceGT, ↓reduceIte, reduceCtorEq, cd_X4_copy]
  generalize hQ : (fun (r : Option Value) G' => r = none ∧ MK G G' o ∧ MR G' o (fun f j => if f = 1 ∧ 0 ≤ j ∧ j < 379 then M 0 j else M f j) V) = Q
  refine up1 (W := fun i G' => Wp X Y_X4_copy 1 Q 0 0 G' 2 [some (.ref o), some (.int (iI i))] []) (P := fun i G' => MK G G' o ∧ MR G' o (fun f j => if f = 1 ∧ 0 ≤ j ∧ j < i then M 0 j else M f j) V) (hi := 379) 0 ?_ ?_ 0 G (by decide) (by decide) ⟨MK.refl, by
    have : (fun f (j : Int) => if f = 1 ∧ 0 ≤ j ∧ j < 0 then M 0 j else M f j) = M := by
      funext f j; rw [if_neg (by omega)]
    rw [this]; exact hM⟩
  · intro i G' h0 h1 ⟨hk, hM'⟩ ih
    refine exS rfl 13 _ _ _ _ _ _ ?_
    simp (disch := omega) only [exB, Nat.reduceAdd, Nat.reduceSub, Nat.reduceMul, Nat.reduceLeDiff, Nat.reduceLT, Nat.reduceEqDiff, Nat.reduceBEq, Int.reduceAdd, Int.reduceSub, Int.reduceMul, Int.reduceNeg, Int.reduceToNat, Int.reduceLE, Int.reduceLT, Int.reduceEq, Int.reduceGE, Int.reduceGT, ↓reduceIte, reduceCtorEq, cd_X4_copy, hM'.f, iI_rt]
    refine ⟨fun h => absurd h (by omega), fun _ => ?_⟩
    refine ⟨by omega, by omega, by omega, by omega, ih _ ⟨hk.put (by omega), ?_⟩⟩
    have hp := hM'.putA 1 (z := i) (v := M 0 i) (by decide) h0 (hM.bA h0 h1)
    have e : uM (fun f j => if f = 1 ∧ 0 ≤ j ∧ j < i then M 0 j else M f j) 1 i (M 0 i) = (fun f j => if f = 1 ∧ 0 ≤ j ∧ j < i + 1 then M 0 j else M f j) := by
      funext f j
      unfold uM
      grind
    rw [e] at hp
    exact hp
  · intro G' ⟨hk, hM'⟩
    refine exS rfl 13 _ _ _ _ _ _ ?_
    simp (disch := omega) only [exB, Nat.reduceAdd, Nat.reduceSub, Nat.reduceMul, Nat.reduceLeDiff, Nat.reduceLT, Nat.reduceEqDiff, Nat.reduceBEq, Int.reduceAdd, Int.reduceSub, Int.reduceMul, Int.reduceNeg, Int.reduceToNat, Int.reduceLE, Int.reduceLT, Int.reduceEq, Int.reduceGE, Int.reduceGT, ↓reduceIte, reduceCtorEq, cd_X4_copy, hM'.f, iI_rt]
    subst hQ
    exact ⟨rfl, hk, hM'⟩
theorem m_back (hM : MR G o M V) : Tri X 1 Y_X4_back [.ref o] 0 0 G (fun r G' => r = none ∧ MK G G' o ∧ MR G' o (fun f j => if f = 0 ∧ 0 ≤ j ∧ j < 379 then M 1 j else M f j) V) := by
  refine Tri.of (by decide +kernel) (Nat.le_of_ble_eq_true rfl) ?_
  refine exS rfl 2 _ _ _ _ _ _ ?_
  simp (disch := omega) only [exB, Nat.reduceAdd, Nat.reduceSub, Nat.reduceMul, Nat.reduceLeDiff, Nat.reduceLT, Nat.reduceEqDiff, Nat.reduceBEq, Int.reduceAdd, Int.reduceSub, Int.reduceMul, Int.reduceNeg, Int.reduceToNat, Int.reduceLE, Int.reduceLT, Int.reduceEq, Int.reduceGE, Int.reduceGT, ↓reduceIte, reduceCtorEq, cd_X4_back]
  generalize hQ : (fun (r : Option Value) G' => r = none ∧ MK G G' o ∧ MR G' o (fun f j => if f = 0 ∧ 0 ≤ j ∧ j < 379 then M 1 j else M f j) V) = Q
  refine up1 (W := fun i G' => Wp X Y_X4_back 1 Q 0 0 G' 2 [some (.ref o), some (.int (iI i))] []) (P := fun i G' => MK G G' o ∧ MR G' o (fun f j => if f = 0 ∧ 0 ≤ j ∧ j < i then M 1 j else M f j) V) (hi := 379) 0 ?_ ?_ 0 G (by decide) (by decide) ⟨MK.refl, by
    have : (fun f (j : Int) => if f = 0 ∧ 0 ≤ j ∧ j < 0 then M 1 j else M f j) = M := by
      funext f j; rw [if_neg (by omega)]
    rw [this]; exact hM⟩
  · intro i G' h0 h1 ⟨hk, hM'⟩ ih
    refine exS rfl 13 _ _ _ _ _ _ ?_
    simp (disch := omega) only [exB, Nat.reduceAdd, Nat.reduceSub, Nat.reduceMul, Nat.reduceLeDiff, Nat.reduceLT, Nat.reduceEqDiff, Nat.reduceBEq, Int.reduceAdd, Int.reduceSub, Int.reduceMul, Int.reduceNeg, Int.reduceToNat, Int.reduceLE, Int.reduceLT, Int.reduceEq, Int.reduceGE, Int.reduceGT, ↓reduceIte, reduceCtorEq, cd_X4_back, hM'.f, iI_rt]
    refine ⟨fun h => absurd h (by omega), fun _ => ?_⟩
    refine ⟨by omega, by omega, by omega, by omega, ih _ ⟨hk.put (by omega), ?_⟩⟩
    have hp := hM'.putA 0 (z := i) (v := M 1 i) (by decide) h0 (hM.2.2.2.1.2.2 i h0 h1).2
    have e : uM (fun f j => if f = 0 ∧ 0 ≤ j ∧ j < i then M 1 j else M f j) 0 i (M 1 i) = (fun f j => if f = 0 ∧ 0 ≤ j ∧ j < i + 1 then M 1 j else M f j) := by
      funext f j
      unfold uM
      grind
    rw [e] at hp
    exact hp
  · intro G' ⟨hk, hM'⟩
    refine exS rfl 13 _ _ _ _ _ _ ?_
    simp (disch := omega) only [exB, Nat.reduceAdd, Nat.reduceSub, Nat.reduceMul, Nat.reduceLeDiff, Nat.reduceLT, Nat.reduceEqDiff, Nat.reduceBEq, Int.reduceAdd, Int.reduceSub, Int.reduceMul, Int.reduceNeg, Int.reduceToNat, Int.reduceLE, Int.reduceLT, Int.reduceEq, Int.reduceGE, Int.reduceGT, ↓reduceIte, reduceCtorEq, cd_X4_back, hM'.f, iI_rt]
    subst hQ
    exact ⟨rfl, hk, hM'⟩
theorem m_recordedN {a : Int} (h : a < 0) (ha : i32 a) : Tri X 1 Y_X4_recorded [.ref o, .int (iI a)] 0 0 G (fun r G' => r = some (.int (iI a)) ∧ G' = G) := by
  refine Tri.of (by decide +kernel) (Nat.le_of_ble_eq_true rfl) ?_
  refine exS rfl 2 _ _ _ _ _ _ ?_
  simp (disch := omega) only [exB, Nat.reduceAdd, Nat.reduceSub, Nat.reduceMul, Nat.reduceLeDiff, Nat.reduceLT, Nat.reduceEqDiff, Nat.reduceBEq, Int.reduceAdd, Int.reduceSub, Int.reduceMul, Int.reduceNeg, Int.reduceToNat, Int.reduceLE, Int.reduceLT, Int.reduceEq, Int.reduceGE, Int.reduceGT, ↓reduceIte, reduceCtorEq, cd_X4_recorded, iI_rt]
  refine ⟨fun _ => ?_, fun h => absurd h (by omega)⟩
  refine exS rfl 2 _ _ _ _ _ _ ?_
  simp (disch := omega) only [exB, Nat.reduceAdd, Nat.reduceSub, Nat.reduceMul, Nat.reduceLeDiff, Nat.reduceLT, Nat.reduceEqDiff, Nat.reduceBEq, Int.reduceAdd, Int.reduceSub, Int.reduceMul, Int.reduceNeg, Int.reduceToNat, Int.reduceLE, Int.reduceLT, Int.reduceEq, Int.reduceGE, Int.reduceGT, ↓reduceIte, reduceCtorEq, cd_X4_recorded, iI_rt]
/-- what recorded leaves in the arrays and numbers -/
def recM (M : Nat → Int → Int) (at0 : Int) : Nat → Int → Int := fun f j => if f = 3 ∧ 379 * at0 ≤ j ∧ j < 379 * at0 + 379 then M 1 (j - 379 * at0) else M f j
def recV (V : Nat → Int) : Nat → Int := uV (uV V 6 ((V 6 + 1) % 4)) 5 (if V 5 < 4 then V 5 + 1 else 4)
theorem m_recorded {a : Int} (hM : MR G o M V) (h : 0 ≤ a) (ha : i32 a) (h6 : 0 ≤ V 6 ∧ V 6 < 4) (h5 : 0 ≤ V 5 ∧ V 5 ≤ 4) : Tri X 1 Y_X4_recorded [.ref o, .int (iI a)] 0 0 G (fun r G' => r = some (.int (iI a)) ∧ MK G G' o ∧ MR G' o (recM M (V 6)) (recV V)) := by
  refine Tri.of (by decide +kernel) (Nat.le_of_ble_eq_true rfl) ?_
  refine exS rfl 4 _ _ _ _ _ _ ?_
  simp (disch := omega) only [exB, Nat.reduceAdd, Nat.reduceSub, Nat.reduceMul, Nat.reduceLeDiff, Nat.reduceLT, Nat.reduceEqDiff, Nat.reduceBEq, Int.reduceAdd, Int.reduceSub, Int.reduceMul, Int.reduceNeg, Int.reduceToNat, Int.reduceLE, Int.reduceLT, Int.reduceEq, Int.reduceGE, Int.reduceGT, ↓reduceIte, reduceCtorEq, cd_X4_recorded, iI_rt]
  refine ⟨fun h => absurd h (by omega), fun _ => ?_⟩
  generalize hQ : (fun (r : Option Value) G' => r = some (.int (iI a)) ∧ MK G G' o ∧ MR G' o (recM M (V 6)) (recV V)) = Q
  refine up1 (W := fun i G' => Wp X Y_X4_recorded 1 Q 0 0 G' 6 [some (.ref o), some (.int (iI a)), some (.int (iI i))] []) (P := fun i G' => MK G G' o ∧ MR G' o (fun f j => if f = 3 ∧ 379 * V 6 ≤ j ∧ j < 379 * V 6 + i then M 1 (j - 379 * V 6) else M f j) V) (hi := 379) 0 ?_ ?_ 0 G (by decide) (by decide) ⟨MK.refl, by
    have : (fun f (j : Int) => if f = 3 ∧ 379 * V 6 ≤ j ∧ j < 379 * V 6 + 0 then M 1 (j - 379 * V 6) else M f j) = M := by
      funext f j; rw [if_neg (by omega)]
    rw [this]; exact hM⟩
  · intro i G' h0 h1 ⟨hk, hM'⟩ ih
    refine exS rfl 18 _ _ _ _ _ _ ?_
    simp (disch := omega) only [exB, Nat.reduceAdd, Nat.reduceSub, Nat.reduceMul, Nat.reduceLeDiff, Nat.reduceLT, Nat.reduceEqDiff, Nat.reduceBEq, Int.reduceAdd, Int.reduceSub, Int.reduceMul, Int.reduceNeg, Int.reduceToNat, Int.reduceLE, Int.reduceLT, Int.reduceEq, Int.reduceGE, Int.reduceGT, ↓reduceIte, reduceCtorEq, cd_X4_recorded, hM'.f, iI_rt]
    refine ⟨fun h => absurd h (by omega), fun _ => ?_⟩
    refine ⟨by omega, by omega, by omega, by omega, ih _ ⟨hk.put (by omega), ?_⟩⟩
    have hp := hM'.putA 3 (z := 379 * V 6 + i) (v := M 1 i) (by decide) (by omega) (hM.2.2.2.1.2.2 i h0 h1).2
    have e : uM (fun f j => if f = 3 ∧ 379 * V 6 ≤ j ∧ j < 379 * V 6 + i then M 1 (j - 379 * V 6) else M f j) 3 (379 * V 6 + i) (M 1 i) = (fun f j => if f = 3 ∧ 379 * V 6 ≤ j ∧ j < 379 * V 6 + (i + 1) then M 1 (j - 379 * V 6) else M f j) := by
      funext f j
      unfold uM
      grind
    rw [e] at hp
    exact hp
  · intro G' ⟨hk, hM'⟩
    have hM2 := hM'.putV (f := 6) (v := (V 6 + 1) % 4) (by decide) (by omega)
    have hk2 := hk.put (a := o) (j := 6) (v := .int (iI ((V 6 + 1) % 4))) (by omega)
    subst hQ
    refine exS rfl 40 _ _ _ _ _ _ ?_
    simp (disch := omega) only [exB, Nat.reduceAdd, Nat.reduceSub, Nat.reduceMul, Nat.reduceLeDiff, Nat.reduceLT, Nat.reduceEqDiff, Nat.reduceBEq, Int.reduceAdd, Int.reduceSub, Int.reduceMul, Int.reduceNeg, Int.reduceToNat, Int.reduceLE, Int.reduceLT, Int.reduceEq, Int.reduceGE, Int.reduceGT, ↓reduceIte, reduceCtorEq, cd_X4_recorded, hM'.f, iI_rt, iI_rem, gm_pe, gm_pn, gc_put, gl_put, gs_put]
    have e : recM M (V 6) = fun f j => if f = 3 ∧ 379 * V 6 ≤ j ∧ j < 379 * V 6 + 379 then M 1 (j - 379 * V 6) else M f j := rfl
    refine ⟨fun h => ⟨hk2.put (by omega), ?_⟩, fun h => ⟨hk2.put (by omega), ?_⟩⟩
    · have := hM2.putV (f := 5) (v := 4) (by decide) (by decide)
      unfold recV
      rw [if_neg (by omega), e]; exact this
    · have := hM2.putV (f := 5) (v := V 5 + 1) (by decide) (by omega)
      unfold recV
      rw [if_pos (by omega), e]; exact this
theorem m_undo0 (hM : MR G o M V) (h : V 5 = 0) : Tri X 1 Y_X4_undo [.ref o] 0 0 G (fun r G' => r = some (.int (iI (-1000002))) ∧ G' = G) := by
  refine Tri.of (by decide +kernel) (Nat.le_of_ble_eq_true rfl) ?_
  refine exS rfl 8 _ _ _ _ _ _ ?_
  simp (disch := omega) only [exB, Nat.reduceAdd, Nat.reduceSub, Nat.reduceMul, Nat.reduceLeDiff, Nat.reduceLT, Nat.reduceEqDiff, Nat.reduceBEq, Int.reduceAdd, Int.reduceSub, Int.reduceMul, Int.reduceNeg, Int.reduceToNat, Int.reduceLE, Int.reduceLT, Int.reduceEq, Int.reduceGE, Int.reduceGT, ↓reduceIte, reduceCtorEq, cd_X4_undo, hM.f, h, iI_rt]
  trace_state
/-- the place of the last state -/
def lastA (V : Nat → Int) : Int := (V 6 + 3) % 4
theorem m_undo (hM : MR G o M V) (h5 : 0 < V 5 ∧ V 5 ≤ 4) (h6 : 0 ≤ V 6 ∧ V 6 < 4) : Tri X 1 Y_X4_undo [.ref o] 0 0 G (fun r G' => r = some (.int (iI (V 5 - 1))) ∧ MK G G' o ∧ MR G' o (fun f j => if f = 0 ∧ 0 ≤ j ∧ j < 379 then M 3 (379 * lastA V + j) else M f j) (uV (uV V 6 (lastA V)) 5 (V 5 - 1))) := by
  have hM2 := (hM.putV (f := 6) (v := lastA V) (by decide) (by unfold lastA; omega)).putV (f := 5) (v := V 5 - 1) (by decide) (by omega)
  have hk2 := ((MK.refl (G := G) (o := o)).put (a := o) (j := 6) (v := .int (iI (lastA V))) (by omega)).put (a := o) (j := 5) (v := .int (iI (V 5 - 1))) (by omega)
  refine Tri.of (by decide +kernel) (Nat.le_of_ble_eq_true rfl) ?_
  refine excS rfl 36 40 _ _ _ _ _ _ ?_
  have e4 : V 6 + 4 - 1 = V 6 + 3 := by omega
  have e5 : (V 6 + 3) % 4 = lastA V := rfl
  simp (disch := omega) only [exB, Nat.reduceAdd, Nat.reduceSub, Nat.reduceMul, Nat.reduceLeDiff, Nat.reduceLT, Nat.reduceEqDiff, Nat.reduceBEq, Int.reduceAdd, Int.reduceSub, Int.reduceMul, Int.reduceNeg, Int.reduceToNat, Int.reduceLE, Int.reduceLT, Int.reduceEq, Int.reduceGE, Int.reduceGT, ↓reduceIte, reduceCtorEq, cd_X4_undo, hM.f, iI_rt, e4, iI_rem, e5, gm_pe, gm_pn, gc_put, gl_put, gs_put]
  refine ⟨fun _ => ?_, fun h => absurd h (by omega)⟩
  generalize gput (gput G o 6 (Value.int (iI (lastA V)))) o 5 (Value.int (iI (V 5 - 1))) = G1 at hM2 hk2 ⊢
  have hl : 0 ≤ lastA V ∧ lastA V < 4 := by unfold lastA; omega
  generalize hQ : (fun (r : Option Value) G' => r = some (.int (iI (V 5 - 1))) ∧ MK G G' o ∧ MR G' o (fun f j => if f = 0 ∧ 0 ≤ j ∧ j < 379 then M 3 (379 * lastA V + j) else M f j) (uV (uV V 6 (lastA V)) 5 (V 5 - 1))) = Q
  refine up1 (W := fun i G' => Wp X Y_X4_undo 1 Q 0 0 G' 36 [some (.ref o), some (.int (iI i))] []) (P := fun i G' => MK G G' o ∧ MR G' o (fun f j => if f = 0 ∧ 0 ≤ j ∧ j < i then M 3 (379 * lastA V + j) else M f j) (uV (uV V 6 (lastA V)) 5 (V 5 - 1))) (hi := 379) 0 ?_ ?_ 0 G1 (by decide) (by decide) ⟨hk2, by
    have : (fun f (j : Int) => if f = 0 ∧ 0 ≤ j ∧ j < 0 then M 3 (379 * lastA V + j) else M f j) = M := by
      funext f j; rw [if_neg (by omega)]
    rw [this]; exact hM2⟩
  · intro i G' h0 h1 ⟨hk, hM'⟩ ih
    refine excS rfl 36 40 _ _ _ _ _ _ ?_
    simp (disch := omega) only [exB, Nat.reduceAdd, Nat.reduceSub, Nat.reduceMul, Nat.reduceLeDiff, Nat.reduceLT, Nat.reduceEqDiff, Nat.reduceBEq, Int.reduceAdd, Int.reduceSub, Int.reduceMul, Int.reduceNeg, Int.reduceToNat, Int.reduceLE, Int.reduceLT, Int.reduceEq, Int.reduceGE, Int.reduceGT, ↓reduceIte, reduceCtorEq, cd_X4_undo, hM'.f, iI_rt, uV]
    refine ⟨fun h => absurd h (by omega), fun _ => ?_⟩
    refine ⟨by omega, by omega, by omega, by omega, ih _ ⟨hk.put (by omega), ?_⟩⟩
    have hp := hM'.putA 0 (z := i) (v := M 3 (379 * lastA V + i)) (by decide) h0 (hM.2.2.2.2.2.1.2.2 _ (by omega) (by omega)).2
    have e : uM (fun f j => if f = 0 ∧ 0 ≤ j ∧ j < i then M 3 (379 * lastA V + j) else M f j) 0 i (M 3 (379 * lastA V + i)) = (fun f j => if f = 0 ∧ 0 ≤ j ∧ j < i + 1 then M 3 (379 * lastA V + j) else M f j) := by
      funext f j
      unfold uM
      grind
    rw [e] at hp
    exact hp
  · intro G' ⟨hk, hM'⟩
    refine excS rfl 36 40 _ _ _ _ _ _ ?_
    simp (disch := omega) only [exB, Nat.reduceAdd, Nat.reduceSub, Nat.reduceMul, Nat.reduceLeDiff, Nat.reduceLT, Nat.reduceEqDiff, Nat.reduceBEq, Int.reduceAdd, Int.reduceSub, Int.reduceMul, Int.reduceNeg, Int.reduceToNat, Int.reduceLE, Int.reduceLT, Int.reduceEq, Int.reduceGE, Int.reduceGT, ↓reduceIte, reduceCtorEq, cd_X4_undo, hM'.f, iI_rt, uV]
    subst hQ
    exact ⟨rfl, hk, hM'⟩
theorem m_least {w : Int} (hw : i32 w) : Tri X 1 Y_X4_least [.int (iI w)] 0 0 G (fun r G' => r = some (.int (iI (if w = 0 ∨ w = 3 then 1 else 0))) ∧ G' = G) := by
  refine Tri.of (by decide +kernel) (Nat.le_of_ble_eq_true rfl) ?_
  refine exS rfl 20 _ _ _ _ _ _ ?_
  simp (disch := omega) only [exB, Nat.reduceAdd, Nat.reduceSub, Nat.reduceMul, Nat.reduceLeDiff, Nat.reduceLT, Nat.reduceEqDiff, Nat.reduceBEq, Int.reduceAdd, Int.reduceSub, Int.reduceMul, Int.reduceNeg, Int.reduceToNat, Int.reduceLE, Int.reduceLT, Int.reduceEq, Int.reduceGE, Int.reduceGT, ↓reduceIte, reduceCtorEq, cd_X4_least, iI_rt]
  grind
theorem m_most {w : Int} (hw : i32 w) : Tri X 1 Y_X4_most [.int (iI w)] 0 0 G (fun r G' => r = some (.int (iI (if w = 0 ∨ w = 3 then 20 else 50))) ∧ G' = G) := by
  refine Tri.of (by decide +kernel) (Nat.le_of_ble_eq_true rfl) ?_
  refine exS rfl 20 _ _ _ _ _ _ ?_
  simp (disch := omega) only [exB, Nat.reduceAdd, Nat.reduceSub, Nat.reduceMul, Nat.reduceLeDiff, Nat.reduceLT, Nat.reduceEqDiff, Nat.reduceBEq, Int.reduceAdd, Int.reduceSub, Int.reduceMul, Int.reduceNeg, Int.reduceToNat, Int.reduceLE, Int.reduceLT, Int.reduceEq, Int.reduceGE, Int.reduceGT, ↓reduceIte, reduceCtorEq, cd_X4_most, iI_rt]
  grind
theorem m_isFree {w : Int} (hM : MR G o M V) (hw : 0 ≤ w ∧ w < 81) : Tri X 1 Y_X4_isFree [.ref o, .int (iI w)] 0 0 G (fun r G' => r = some (.int (iI (if M 0 (7 + w) = 0 ∧ M 0 (88 + w) = 0 then 1 else 0))) ∧ G' = G) := by
  have b1 := hM.bA (z := 7 + w) (by omega) (by omega)
  have b2 := hM.bA (z := 88 + w) (by omega) (by omega)
  refine Tri.of (by decide +kernel) (Nat.le_of_ble_eq_true rfl) ?_
  refine exS rfl 20 _ _ _ _ _ _ ?_
  simp (disch := omega) only [exB, Nat.reduceAdd, Nat.reduceSub, Nat.reduceMul, Nat.reduceLeDiff, Nat.reduceLT, Nat.reduceEqDiff, Nat.reduceBEq, Int.reduceAdd, Int.reduceSub, Int.reduceMul, Int.reduceNeg, Int.reduceToNat, Int.reduceLE, Int.reduceLT, Int.reduceEq, Int.reduceGE, Int.reduceGT, ↓reduceIte, reduceCtorEq, cd_X4_isFree, hM.f, iI_rt]
  grind
theorem m_blockedMany (hM : MR G o M V) : Tri X 1 Y_X4_blockedMany [.ref o] 0 0 G (fun r G' => r = some (.int (iI (sumI (fun p => if M 0 (7 + p) = 20 then 1 else 0) 81))) ∧ G' = G) := by
  refine Tri.of (by decide +kernel) (Nat.le_of_ble_eq_true rfl) ?_
  refine exS rfl 4 _ _ _ _ _ _ ?_
  simp (disch := omega) only [exB, Nat.reduceAdd, Nat.reduceSub, Nat.reduceMul, Nat.reduceLeDiff, Nat.reduceLT, Nat.reduceEqDiff, Nat.reduceBEq, Int.reduceAdd, Int.reduceSub, Int.reduceMul, Int.reduceNeg, Int.reduceToNat, Int.reduceLE, Int.reduceLT, Int.reduceEq, Int.reduceGE, Int.reduceGT, ↓reduceIte, reduceCtorEq, cd_X4_blockedMany]
  generalize hQ : (fun (r : Option Value) G' => r = some (.int (iI (sumI (fun p => if M 0 (7 + p) = 20 then 1 else 0) 81))) ∧ G' = G) = Q
  refine up0 (W := fun i => Wp X Y_X4_blockedMany 1 Q 0 0 G 4 [some (.ref o), some (.int (iI (sumI (fun p => if M 0 (7 + p) = 20 then 1 else 0) i.toNat))), some (.int (iI i))] []) (hi := 81) 0 ?_ ?_ 0 (by decide) (by decide)
  · intro i h0 h1 ih
    have b1 := hM.bA (z := 7 + i) (by omega) (by omega)
    rw [sumI_s h0] at ih
    refine excS rfl 4 40 _ _ _ _ _ _ ?_
    simp (disch := omega) only [exB, Nat.reduceAdd, Nat.reduceSub, Nat.reduceMul, Nat.reduceLeDiff, Nat.reduceLT, Nat.reduceEqDiff, Nat.reduceBEq, Int.reduceAdd, Int.reduceSub, Int.reduceMul, Int.reduceNeg, Int.reduceToNat, Int.reduceLE, Int.reduceLT, Int.reduceEq, Int.reduceGE, Int.reduceGT, ↓reduceIte, reduceCtorEq, cd_X4_blockedMany, hM.f, iI_rt]
    refine ⟨fun h => absurd h (by omega), fun _ => ?_⟩
    refine ⟨by omega, by omega, fun h => ?_, fun h => ?_⟩
    · rw [if_neg h] at ih; exact ih
    · rw [if_pos (Classical.not_not.mp h)] at ih; exact ih
  · refine exS rfl 6 _ _ _ _ _ _ ?_
    subst hQ
    simp (disch := omega) only [exB, Nat.reduceAdd, Nat.reduceSub, Nat.reduceMul, Nat.reduceLeDiff, Nat.reduceLT, Nat.reduceEqDiff, Nat.reduceBEq, Int.reduceAdd, Int.reduceSub, Int.reduceMul, Int.reduceNeg, Int.reduceToNat, Int.reduceLE, Int.reduceLT, Int.reduceEq, Int.reduceGE, Int.reduceGT, ↓reduceIte, reduceCtorEq, cd_X4_blockedMany, hM.f, iI_rt]
end
