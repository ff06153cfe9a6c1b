/-! WHAT IS ALWAYS TRUE, 3: pays, hear -/
set_option maxRecDepth 100000
set_option maxHeartbeats 4000000
theorem purs_u {N : Int → Int} {a v : Int} (ha : 0 ≤ a ∧ a < 6) : pursS (uN N (169 + 9 * a + 4) v) = pursS N + v - N (169 + 9 * a + 4) := by
  have h := sumI_upd (g := fun n => N (169 + 9 * n + 4)) (v := v) ha.1 6
  rw [if_pos (by omega)] at h
  have e : pursS (uN N (169 + 9 * a + 4) v) = sumI (uN (fun n => N (169 + 9 * n + 4)) a v) 6 := by
    refine sumI_c2 6 (fun i hi => ?_)
    unfold uN
    by_cases q : (i : Int) = a
    · rw [if_pos q, if_pos (by omega)]
    · rw [if_neg q, if_neg (by omega)]
  have e2 : pursS N = sumI (fun n => N (169 + 9 * n + 4)) 6 := rfl
  rw [e, e2, h]
  omega
theorem purs_1 {N : Int → Int} {a : Int} (ha : 0 ≤ a ∧ a < 6) (hn : ∀ m, 0 ≤ m → m < 6 → 0 ≤ N (169 + 9 * m + 4)) : N (169 + 9 * a + 4) ≤ pursS N := by
  have h := purs_u (N := N) (v := 0) ha
  have : 0 ≤ pursS (uN N (169 + 9 * a + 4) 0) := sumI_nn 6 (fun i hi => by
    unfold uN
    split
    · exact Int.le_refl _
    · exact hn i (by omega) (by omega))
  omega
/-- a number of a net that bounds nothing -/
theorem ROK.adf {K : Int} {N : Int → Int} (h : ROK K N) {m w b : Int} (hm : 0 ≤ m ∧ m < 6) (hw : 6 ≤ w ∧ w < 9) : ROK K (adN N m w b) ∧ pursS (adN N m w b) = pursS N := by
  have hB : RowB K (adN N m w b) := h.1.u (okIx.f hm.1 hm.2 hw.1 hw.2)
  refine ⟨h.off hB (adN_off (by omega)) (fun n w' n0 n1 hw' => adN_off (by omega)) (fun c hc n n0 n1 e => ?_), pursS_congr (fun n n0 n1 => adN_off (by omega))⟩
  unfold inC at hc
  rw [adN_off (by omega)]; exact e
/-- a purse changes -/
theorem ROK.adp {K : Int} {N : Int → Int} (h : ROK K N) {m b : Int} (hm : 0 ≤ m ∧ m < 6) (h0 : 0 ≤ N (169 + 9 * m + 4) + b) (hs : pursS N + b ≤ K) : ROK K (adN N m 4 b) ∧ pursS (adN N m 4 b) = pursS N + b ∧ adN N m 4 b (169 + 9 * m + 4) = N (169 + 9 * m + 4) + b := by
  have hnn : ∀ n, 0 ≤ n → n < 6 → 0 ≤ N (169 + 9 * n + 4) := fun n n0 n1 => (h.1.2.2.2.2.2.1 n n0 n1).2.2.2.2.1.1
  have h1 := purs_1 hm hnn
  have hK := h.1.1
  have ew : wr (N (169 + 9 * m + 4) + b) = N (169 + 9 * m + 4) + b := wr_id (by unfold i32; omega)
  have es : pursS (adN N m 4 b) = pursS N + b := by
    unfold adN
    rw [purs_u hm, ew]; omega
  have hB : RowB K (adN N m 4 b) := h.1.u (okIx.n hm.1 hm.2 (by decide) (by decide) (show 0 ≤ wr (N (169 + 9 * m + 4) + b) ∧ wr (N (169 + 9 * m + 4) + b) ≤ K by rw [ew]; omega))
  refine ⟨⟨hB, fun n hn k k0 k1 hp => ?_, by omega⟩, es, by unfold adN uN; rw [if_pos rfl, ew]⟩
  have e5 : adN N m 4 b 5 = N 5 := adN_off (by omega)
  have hn' : isN N n := ⟨hn.1, by have := hn.2; omega⟩
  have hn6 : n < 6 := by have := h.1.2.1.1; have := hn'.2; omega
  have hn0 := hn.1
  have eo : adN N m 4 b (169 + 9 * n + k) = N (169 + 9 * n + k) := adN_off (by omega)
  rw [eo] at hp ⊢
  have hb := (h.1.pins hn0 hn6 k k0 k1).2
  obtain ⟨a, b⟩ := h.2.1 n hn' k k0 k1 hp
  rw [adN_off (by omega), adN_off (by omega)]
  exact ⟨a, b⟩
theorem ROK.pays {K : Int} {N : Int → Int} (h : ROK K N) {a b c : Int} (ha : 0 ≤ a ∧ a < 6) (hb : 0 ≤ b ∧ b < 6) (hc : 0 ≤ c ∧ c ≤ N (169 + 9 * a + 4)) : ROK K (paysN N a b c) := by
  have hs := h.2.2
  obtain ⟨h1, s1, e1⟩ := h.adp (m := a) (b := -c) ha (by omega) (by omega)
  obtain ⟨h2, s2⟩ := h1.adf (m := a) (w := 7) (b := c) ha (by decide)
  have hnn := (h2.1.2.2.2.2.2.1 b hb.1 hb.2).2.2.2.2.1.1
  obtain ⟨h3, s3, e3⟩ := h2.adp (m := b) (b := c) hb (by omega) (by omega)
  exact (h3.adf (m := b) (w := 8) (b := c) hb (by decide)).1
/-- a number of a claim changes -/
theorem ROK.clm {K : Int} {N : Int → Int} (h : ROK K N) {j v : Int} (hj : 223 ≤ j) (hv : okIx K j v) : ROK K (uN N j v) := by
  refine h.off (h.1.u hv) ?_ ?_ ?_
  · unfold uN; rw [if_neg (by omega)]
  · intro m w m0 m1 hw; unfold uN; rw [if_neg (by omega)]
  · intro c hc n n0 n1 e; unfold inC at hc; unfold uN; rw [if_neg (by omega)]; exact e
theorem canF_all {N : Int → Int} {c : Int} : ∀ k : Nat, canF N c k = 1 → ∀ z : Nat, z < k → wasB N c z → N (7 + z) = 0
  | 0, _, z, hz, _ => absurd hz (by omega)
  | k + 1, h, z, hz, hw => by
    have h' : (if canF N c k = 1 ∧ (¬ wasB N c k ∨ N (7 + k) = 0) then (1 : Int) else 0) = 1 := h
    by_cases q : canF N c k = 1 ∧ (¬ wasB N c k ∨ N (7 + k) = 0)
    · by_cases e : z = k
      · subst e
        exact q.2.resolve_left (fun y => y hw)
      · exact canF_all k q.1 z (by omega) hw
    · rw [if_neg q] at h'; exact absurd h' (by decide)
theorem ROK.comb {K : Int} {N : Int → Int} (h : ROK K N) {c : Int} (hc : 0 ≤ clA N c 0 ∧ clA N c 0 ≤ 5) : ROK K (combN N c) := by
  unfold combN
  split
  · next q =>
    have off : ∀ j, j < 7 ∨ 169 ≤ j → cbR N c 162 j = N j := fun j hj => by unfold cbR; rw [if_neg (by omega)]
    have hB : RowB K (uN (cbR N c 162) (169 + 9 * clA N c 0 + 5) 1) := by
      refine RowB.u (RowB.of h.1.1 (fun j j0 j1 => ?_)) (okIx.n hc.1 (by omega) (by decide) (by decide) (show (0 : Int) ≤ 1 ∧ (1 : Int) ≤ 1 by decide))
      by_cases z : 7 ≤ j ∧ j < 169
      · unfold cbR
        split
        · exact okIx.c z.1 z.2 (by omega)
        · exact h.1.ix j j0 j1
      · rw [off j (by omega)]; exact h.1.ix j j0 j1
    refine h.off hB ?_ ?_ ?_
    · unfold uN; rw [if_neg (by omega), off _ (by omega)]
    · intro n w n0 n1 hw; unfold uN; rw [if_neg (by omega), off _ (by omega)]
    · intro x hx n n0 n1 e
      unfold inC at hx
      unfold uN
      rw [if_neg (by omega)]
      unfold cbR
      rw [if_neg]
      · exact e
      · rintro ⟨-, z⟩
        have := canF_all 162 q x.toNat (by omega)
        rw [show ((x.toNat : Nat) : Int) = x from by omega] at this
        rw [show 7 + x - 7 = x from by omega] at z
        have := this z
        omega
  · exact h
