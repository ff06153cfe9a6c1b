/-! WHAT IS ALWAYS TRUE, 5: dig -/
set_option maxRecDepth 100000
set_option maxHeartbeats 4000000
theorem ROK.pays_p {K : Int} {N : Int → Int} (h : ROK K N) {a b c : Int} (ha : 0 ≤ a ∧ a < 6) (hb : 0 ≤ b ∧ b < 6) (hc : 0 ≤ c ∧ c ≤ N (169 + 9 * a + 4)) : N (169 + 9 * a + 4) - c ≤ paysN N a b c (169 + 9 * a + 4) := by
  have hs := h.2.2
  obtain ⟨h1, s1, e1⟩ := h.adp (m := a) (b := -c) ha (by omega) (by omega)
  obtain ⟨h2, s2⟩ := h1.adf (m := a) (w := 7) (b := c) ha (by decide)
  have hnn := (h2.1.2.2.2.2.2.1 b hb.1 hb.2).2.2.2.2.1.1
  obtain ⟨h3, s3, e3⟩ := h2.adp (m := b) (b := c) hb (by omega) (by omega)
  have e2 : adN (adN N a 4 (-c)) a 7 c (169 + 9 * a + 4) = N (169 + 9 * a + 4) + -c := by rw [adN_off (by omega), e1]
  unfold paysN
  rw [adN_off (by omega)]
  by_cases q : a = b
  · subst q
    rw [e3, e2]; omega
  · rw [adN_off (by omega), e2]; omega
theorem thr_congr {N N' : Int → Int} {l : List Int} {m : Int} (h : ∀ c, inC c → (N' (7 + c) = 1 + m ↔ N (7 + c) = 1 + m)) : thr N' l m = thr N l m := by
  refine sumI_c2 162 (fun i hi => ?_)
  have := h i (by unfold inC; omega)
  by_cases q : (i : Int) ∈ l ∧ N (7 + i) = 1 + m
  · rw [if_pos q, if_pos ⟨q.1, this.mpr q.2⟩]
  · rw [if_neg q, if_neg (fun z => q ⟨z.1, this.mp z.2⟩)]
theorem sumI_mono2 {f : Int → Int} (a : Nat) : ∀ b : Nat, a ≤ b → (∀ i : Nat, i < b → 0 ≤ f i) → sumI f a ≤ sumI f b
  | 0, h, _ => by rw [show a = 0 from by omega]; exact Int.le_refl _
  | b + 1, h, hf => by
    by_cases e : a = b + 1
    · rw [e]; exact Int.le_refl _
    · have := sumI_mono2 (f := f) a b (by omega) (fun i hi => hf i (by omega))
      have := hf b (by omega)
      show sumI f a ≤ sumI f b + f b
      omega
theorem digL_inv {K : Int} {N : Int → Int} (h : ROK K N) (hK : K + 1 ≤ 100000000) {l : List Int} {a : Int} (ha : 0 ≤ a ∧ a < 6) (hd : duesN N l ≤ N (169 + 9 * a + 4)) (hv : N 6 + popc (vicN N l).toNat ≤ 12) : ∀ k : Nat, k ≤ (N 5).toNat →
    ROK (K + 1) (digL N l a k (actN N)) ∧ (∀ c, inC c → digL N l a k (actN N) (7 + c) = N (7 + c) ∨ digL N l a k (actN N) (7 + c) = 0) ∧ (∀ c, inC c → ∀ n, (k : Int) ≤ n → (digL N l a k (actN N) (7 + c) = 1 + n ↔ N (7 + c) = 1 + n)) ∧ N (169 + 9 * a + 4) ≤ digL N l a k (actN N) (169 + 9 * a + 4) + sumI (dueN N l) k := by
  have h5 := h.1.2.1.1
  have h6 := h.1.2.1.2
  have aN : ∀ j, j ≠ 4 → actN N j = N j := fun j hj => by unfold actN uN; rw [if_neg hj]
  have n1 := h.1.2.2.1.2.1
  have hst : ∀ m, 0 ≤ m → m < 6 → 0 ≤ N (169 + 9 * m + 3) ∧ N (169 + 9 * m + 3) ≤ 9 := fun m m0 m1 => (h.1.2.2.2.2.2.1 m m0 m1).2.2.2.1
  have cnt := popc_v (f := thr N l) (N 5).toNat (by omega)
  intro k
  induction k with
  | zero =>
    intro _
    refine ⟨h.act hK, fun c hc => Or.inl ?_, fun c hc n _ => ?_, ?_⟩
    · unfold inC at hc; exact aN _ (by omega)
    · unfold inC at hc
      show actN N (7 + c) = 1 + n ↔ _
      rw [aN _ (by omega)]
    · show _ ≤ actN N (169 + 9 * a + 4) + 0
      rw [aN _ (by omega)]; omega
  | succ k ih =>
    intro hk
    obtain ⟨o, c1, c2, pu⟩ := ih (by omega)
    obtain ⟨d6, dj⟩ := digL_f (N0 := N) (N := actN N) (l := l) (a := a) (by rw [aN 6 (by decide)]; omega) ha k (by omega)
    rw [aN 6 (by decide)] at d6
    have D1 : digL N l a k (actN N) 1 = N 1 := by rw [dj 1 (Or.inl (by decide)), aN 1 (by decide)]
    have Ds : ∀ m, 0 ≤ m → m < 6 → digL N l a k (actN N) (169 + 9 * m + 3) = N (169 + 9 * m + 3) := fun m m0 m1 => by rw [dj _ (Or.inr ⟨m, m0, m1, 3, by decide, by decide, rfl⟩), aN _ (by omega)]
    have eS : digL N l a (k + 1) (actN N) = digS N l a k (digL N l a k (actN N)) := rfl
    rw [eS]
    generalize digL N l a k (actN N) = D at *
    have k0 : 0 ≤ (k : Int) ∧ (k : Int) < 6 := by omega
    have dk := dueN_b (N := N) (l := l) (m := k) n1 (hst k k0.1 k0.2)
    have hsk : sumI (dueN N l) (k + 1) = sumI (dueN N l) k + dueN N l k := rfl
    by_cases hy : 0 < thr N l k
    case neg =>
      have e : digS N l a k D = D := by unfold digS; rw [if_neg hy]
      rw [e]
      refine ⟨o, c1, fun c hc n hn => c2 c hc n (by omega), ?_⟩
      rw [hsk]; omega
    have et : thr D l k = thr N l k := thr_congr (fun c hc => c2 c hc k (Int.le_refl _))
    have ed : dueN D l k = dueN N l k := by unfold dueN; rw [et, D1, Ds k k0.1 k0.2]
    have e : digS N l a k D = losN (adN (claN (paysN D a k (dueN N l k)) a k (dueN N l k)) k 6 1) k := by unfold digS; rw [if_pos hy, ed]
    rw [e]
    -- the digger can pay
    have rest := sumI_mono2 (f := dueN N l) (k + 1) (N 5).toNat (by omega) (fun i hi => (dueN_b n1 (hst i (by omega) (by omega))).1)
    have can : dueN N l k ≤ D (169 + 9 * a + 4) := by unfold duesN at hd; omega
    have mono := sumI_mono (f := fun i => if 0 < thr N l i then 1 else 0) (fun i => by split <;> decide) (k + 1) (N 5).toNat (by omega)
    have last : sumI (fun i => if 0 < thr N l i then 1 else 0) (k + 1) = sumI (fun i => if 0 < thr N l i then 1 else 0) k + 1 := by
      show _ + (if 0 < thr N l (k : Int) then 1 else 0) = _
      rw [if_pos hy]
    have D6 : D 6 ≤ 11 := by unfold vicN at hv; omega
    have p6 : paysN D a k (dueN N l k) 6 = D 6 := paysN_off (fun x hx => by omega)
    have q0 := o.1.2.1.2
    have o1 := o.pays (b := (k : Int)) (c := dueN N l k) ha k0 ⟨dk.1, can⟩
    have o2 := o1.cla (by rw [p6]; exact D6) ha k0 (p := dueN N l k) (by omega)
    have o3 := (o2.adf (m := (k : Int)) (w := 6) (b := 1) k0 (by decide)).1
    have o4 := o3.los (m := (k : Int)) k0
    have offc : ∀ c, inC c → adN (claN (paysN D a k (dueN N l k)) a k (dueN N l k)) k 6 1 (7 + c) = D (7 + c) := by
      intro c hc
      unfold inC at hc
      rw [adN_off (by omega), claN_off (by omega) (by rw [p6]; omega), paysN_off (fun x hx => by omega)]
    have los : ∀ c, inC c → losN (adN (claN (paysN D a k (dueN N l k)) a k (dueN N l k)) k 6 1) k (7 + c) = if D (7 + c) = 1 + k then 0 else D (7 + c) := by
      intro c hc
      have := offc c hc
      unfold inC at hc
      unfold losN uN losR
      rw [if_neg (by omega), this]
      by_cases z : D (7 + c) = 1 + k
      · rw [if_pos ⟨by omega, by omega, z⟩, if_pos z]
      · rw [if_neg (fun y => z y.2.2), if_neg z]
    refine ⟨o4, fun c hc => ?_, fun c hc n hn => ?_, ?_⟩
    · rw [los c hc]
      split
      · exact Or.inr rfl
      · exact c1 c hc
    · rw [los c hc]
      have := c2 c hc n (by omega)
      split
      · next z => rw [z] at this; omega
      · exact this
    · have pp := o.pays_p (b := (k : Int)) (c := dueN N l k) ha k0 ⟨dk.1, can⟩
      rw [losN_off (by omega) (by omega), adN_off (by omega), claN_off (by omega) (by rw [p6]; omega), hsk]
      omega
theorem ROK.dig {K : Int} {N : Int → Int} (h : ROK K N) (hK : K + 1 ≤ 100000000) {n : Int} {R : Option (List Int × Int)} (hR : isN N n → ¬ jnd N n → RouteR N n 1 R) : ROK (K + 1) (digN N n R) := by
  unfold digN
  by_cases he : digE N n R = 0
  case neg => rw [if_neg he]; exact h.k (by omega) hK
  rw [if_pos he]
  unfold digE at he
  by_cases hn : isN N n
  case neg => rw [if_neg hn] at he; exact absurd he (by decide)
  rw [if_pos hn] at he
  by_cases hj : jnd N n
  · rw [if_pos hj] at he; exact absurd he (by decide)
  rw [if_neg hj] at he
  have hr := hR hn hj
  match R, hr, he with
  | none, _, he => dsimp only at he; omega
  | some (l, c), hr, he =>
    dsimp only at he ⊢
    by_cases h1 : duesN N l > N (169 + 9 * n + 4)
    · rw [if_pos h1] at he; exact absurd he (by decide)
    rw [if_neg h1] at he
    by_cases h2 : N 6 + popc (vicN N l).toNat > 12
    · rw [if_pos h2] at he; exact absurd he (by decide)
    have hn6 : 0 ≤ n ∧ n < 6 := by have := h.1.2.1.1; unfold isN at hn; omega
    have nb := h.1.2.2.2.2.2.1 n hn6.1 hn6.2
    have ok := hr.g.ok (h.2.1 n hn) nb.1.1 nb.2.1 nb.2.2.1.2
    obtain ⟨o, c1, -, -⟩ := digL_inv h hK (l := l) (a := n) hn6 (by omega) (by omega) (N 5).toNat (Nat.le_refl _)
    unfold digN1
    refine o.wir hn6 (fun x hx => ⟨(ok x hx).1, ?_⟩)
    rcases c1 x (ok x hx).1 with z | z
    · rw [z]
      rcases (ok x hx).2 with y | y | y <;> omega
    · rw [z]; omega
