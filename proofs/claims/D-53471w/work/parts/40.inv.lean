/-! WHAT IS ALWAYS TRUE of a row -/
set_option maxRecDepth 100000
set_option maxHeartbeats 4000000
/-- the kind of a place of a row; the bounds of a kind -/
def kd (j : Int) : Nat := if j < 7 then j.toNat else if j < 169 then 7 else if j < 223 then 10 + ((j - 169) % 9).toNat else 20 + ((j - 223) % 13).toNat
def loK (k : Nat) : Int := if k = 0 ∨ k = 3 then 1 else if k = 12 then -1 else 0
def hiK (K : Int) (k : Nat) : Int := if k = 0 ∨ k = 3 ∨ k = 7 then 20 else if k = 1 ∨ k = 2 then 50 else if k = 4 ∨ k = 14 ∨ k = 26 then K else if k = 5 then 6 else if k = 6 then 12 else if k = 10 ∨ k = 11 ∨ k = 12 then 80 else if k = 13 then 9 else if k = 15 then 1 else if k = 20 ∨ k = 21 then 5 else if k = 22 then 162 else if k = 23 then 81 else if k = 24 then 10000 else if k = 25 then 2 else 134217727
/-- a value that may lie at a place of a row -/
def okIx (K j v : Int) : Prop := (kd j = 16 ∨ kd j = 17 ∨ kd j = 18) ∨ (loK (kd j) ≤ v ∧ v ≤ hiK K (kd j))
theorem kd_s {j : Int} (h1 : j < 7) : kd j = j.toNat := by unfold kd; rw [if_pos h1]
theorem kd_c {j : Int} (h0 : 7 ≤ j) (h1 : j < 169) : kd j = 7 := by unfold kd; rw [if_neg (by omega), if_pos h1]
theorem kd_n {m w : Int} (m0 : 0 ≤ m) (m1 : m < 6) (w0 : 0 ≤ w) (w1 : w < 9) : kd (169 + 9 * m + w) = 10 + w.toNat := by
  unfold kd; rw [if_neg (by omega), if_neg (by omega), if_pos (by omega)]; omega
theorem kd_q {c w : Int} (c0 : 0 ≤ c) (w0 : 0 ≤ w) (w1 : w < 13) : kd (223 + 13 * c + w) = 20 + w.toNat := by
  unfold kd; rw [if_neg (by omega), if_neg (by omega), if_neg (by omega)]; omega
theorem okIx.s {K j v : Int} (h0 : 0 ≤ j) (h1 : j < 7) (hv : loK j.toNat ≤ v ∧ v ≤ hiK K j.toNat) : okIx K j v := Or.inr (by rw [kd_s h1]; exact hv)
theorem okIx.c {K j v : Int} (h0 : 7 ≤ j) (h1 : j < 169) (hv : 0 ≤ v ∧ v ≤ 20) : okIx K j v := Or.inr (by rw [kd_c h0 h1]; exact hv)
theorem okIx.n {K m w v : Int} (m0 : 0 ≤ m) (m1 : m < 6) (w0 : 0 ≤ w) (w1 : w < 6) (hv : loK (10 + w.toNat) ≤ v ∧ v ≤ hiK K (10 + w.toNat)) : okIx K (169 + 9 * m + w) v := Or.inr (by rw [kd_n m0 m1 w0 (by omega)]; exact hv)
theorem okIx.f {K m w v : Int} (m0 : 0 ≤ m) (m1 : m < 6) (w0 : 6 ≤ w) (w1 : w < 9) : okIx K (169 + 9 * m + w) v := Or.inl (by rw [kd_n m0 m1 (by omega) w1]; omega)
theorem okIx.q {K c w v : Int} (c0 : 0 ≤ c) (w0 : 0 ≤ w) (w1 : w < 13) (hv : loK (20 + w.toNat) ≤ v ∧ v ≤ hiK K (20 + w.toNat)) : okIx K (223 + 13 * c + w) v := Or.inr (by rw [kd_q c0 w0 w1]; exact hv)
theorem RowB.ix {K : Int} {N : Int → Int} (h : RowB K N) : ∀ j, 0 ≤ j → j < 379 → okIx K j (N j) := by
  intro j j0 j1
  obtain ⟨hK, ⟨h5, h6⟩, ⟨s0, s1, s2, s3⟩, h4, hc, hn, hq⟩ := h
  by_cases a : j < 7
  · have : j = 0 ∨ j = 1 ∨ j = 2 ∨ j = 3 ∨ j = 4 ∨ j = 5 ∨ j = 6 := by omega
    rcases this with rfl | rfl | rfl | rfl | rfl | rfl | rfl
    · exact okIx.s (by decide) (by decide) s0
    · exact okIx.s (by decide) (by decide) s1
    · exact okIx.s (by decide) (by decide) s2
    · exact okIx.s (by decide) (by decide) s3
    · exact okIx.s (by decide) (by decide) h4
    · exact okIx.s (by decide) (by decide) h5
    · exact okIx.s (by decide) (by decide) h6
  by_cases b : j < 169
  · have := hc (j - 7) (by unfold inC; omega)
    rw [show 7 + (j - 7) = j from by omega] at this
    exact okIx.c (by omega) b this
  by_cases d : j < 223
  · obtain ⟨m, w, m0, m1, w0, w1, rfl⟩ : ∃ m w : Int, 0 ≤ m ∧ m < 6 ∧ 0 ≤ w ∧ w < 9 ∧ j = 169 + 9 * m + w := ⟨(j - 169) / 9, (j - 169) % 9, by omega, by omega, by omega, by omega, by omega⟩
    obtain ⟨q0, q1, q2, q3, q4, q5⟩ := hn m m0 m1
    by_cases w6 : 6 ≤ w
    · exact okIx.f m0 m1 w6 w1
    · have : w = 0 ∨ w = 1 ∨ w = 2 ∨ w = 3 ∨ w = 4 ∨ w = 5 := by omega
      rcases this with rfl | rfl | rfl | rfl | rfl | rfl
      · exact okIx.n m0 m1 (by decide) (by decide) q0
      · exact okIx.n m0 m1 (by decide) (by decide) q1
      · exact okIx.n m0 m1 (by decide) (by decide) q2
      · exact okIx.n m0 m1 (by decide) (by decide) q3
      · exact okIx.n m0 m1 (by decide) (by decide) q4
      · exact okIx.n m0 m1 (by decide) (by decide) q5
  · obtain ⟨c, w, c0, c1, w0, w1, rfl⟩ : ∃ c w : Int, 0 ≤ c ∧ c < 12 ∧ 0 ≤ w ∧ w < 13 ∧ j = 223 + 13 * c + w := ⟨(j - 223) / 13, (j - 223) % 13, by omega, by omega, by omega, by omega, by omega⟩
    obtain ⟨q0, q1, q2, q3, q4, q5, q6, q7⟩ := hq c c0 c1
    by_cases w7 : 7 ≤ w
    · have := q7 (w - 7) (by omega) (by omega)
      rw [show 7 + (w - 7) = w from by omega] at this
      refine okIx.q c0 w0 w1 ⟨?_, ?_⟩
      · unfold loK; rw [if_neg (by omega), if_neg (by omega)]; exact this.1
      · unfold hiK
        rw [if_neg (by omega), if_neg (by omega), if_neg (by omega), if_neg (by omega), if_neg (by omega), if_neg (by omega), if_neg (by omega), if_neg (by omega), if_neg (by omega), if_neg (by omega), if_neg (by omega), if_neg (by omega), if_neg (by omega)]
        omega
    · have : w = 0 ∨ w = 1 ∨ w = 2 ∨ w = 3 ∨ w = 4 ∨ w = 5 ∨ w = 6 := by omega
      rcases this with rfl | rfl | rfl | rfl | rfl | rfl | rfl
      · exact okIx.q c0 (by decide) (by decide) q0
      · exact okIx.q c0 (by decide) (by decide) q1
      · exact okIx.q c0 (by decide) (by decide) q2
      · exact okIx.q c0 (by decide) (by decide) q3
      · exact okIx.q c0 (by decide) (by decide) q4
      · exact okIx.q c0 (by decide) (by decide) q5
      · exact okIx.q c0 (by decide) (by decide) q6
theorem okIx.get {K j v : Int} {k : Nat} (h : okIx K j v) (hk : kd j = k) (hf : k ≠ 16 ∧ k ≠ 17 ∧ k ≠ 18) : loK k ≤ v ∧ v ≤ hiK K k := by
  rcases h with h | h
  · omega
  · rw [hk] at h; exact h
theorem RowB.of {K : Int} {N : Int → Int} (hK : K ≤ 100000000) (h : ∀ j, 0 ≤ j → j < 379 → okIx K j (N j)) : RowB K N := by
  have sm := fun j (j0 : 0 ≤ j) (j1 : j < 7) => (h j j0 (by omega)).get (kd_s j1) (by omega)
  refine ⟨hK, ⟨sm 5 (by decide) (by decide), sm 6 (by decide) (by decide)⟩, ⟨sm 0 (by decide) (by decide), sm 1 (by decide) (by decide), sm 2 (by decide) (by decide), sm 3 (by decide) (by decide)⟩, sm 4 (by decide) (by decide), fun c hc => ?_, fun m m0 m1 => ?_, fun c c0 c1 => ?_⟩
  · obtain ⟨c0, c1⟩ := hc
    exact (h (7 + c) (by omega) (by omega)).get (kd_c (by omega) (by omega)) (by decide)
  · have key := fun w (w0 : 0 ≤ w) (w1 : w < 6) => (h (169 + 9 * m + w) (by omega) (by omega)).get (kd_n m0 m1 w0 (by omega)) (by omega)
    exact ⟨key 0 (by decide) (by decide), key 1 (by decide) (by decide), key 2 (by decide) (by decide), key 3 (by decide) (by decide), key 4 (by decide) (by decide), key 5 (by decide) (by decide)⟩
  · have key := fun w (w0 : 0 ≤ w) (w1 : w < 13) => (h (223 + 13 * c + w) (by omega) (by omega)).get (kd_q c0 w0 w1) (by omega)
    refine ⟨key 0 (by decide) (by decide), key 1 (by decide) (by decide), key 2 (by decide) (by decide), key 3 (by decide) (by decide), key 4 (by decide) (by decide), key 5 (by decide) (by decide), key 6 (by decide) (by decide), fun k k0 k1 => ?_⟩
    have := key (7 + k) (by omega) (by omega)
    have : k = 0 ∨ k = 1 ∨ k = 2 ∨ k = 3 ∨ k = 4 ∨ k = 5 := by omega
    rcases this with rfl | rfl | rfl | rfl | rfl | rfl
    · have q : 0 ≤ N (223 + 13 * c + (7 + 0)) ∧ N (223 + 13 * c + (7 + 0)) ≤ 134217727 := this; omega
    · have q : 0 ≤ N (223 + 13 * c + (7 + 1)) ∧ N (223 + 13 * c + (7 + 1)) ≤ 134217727 := this; omega
    · have q : 0 ≤ N (223 + 13 * c + (7 + 2)) ∧ N (223 + 13 * c + (7 + 2)) ≤ 134217727 := this; omega
    · have q : 0 ≤ N (223 + 13 * c + (7 + 3)) ∧ N (223 + 13 * c + (7 + 3)) ≤ 134217727 := this; omega
    · have q : 0 ≤ N (223 + 13 * c + (7 + 4)) ∧ N (223 + 13 * c + (7 + 4)) ≤ 134217727 := this; omega
    · have q : 0 ≤ N (223 + 13 * c + (7 + 5)) ∧ N (223 + 13 * c + (7 + 5)) ≤ 134217727 := this; omega
theorem hiK.k {K K' : Int} {k : Nat} (hK : K ≤ K') : hiK K k ≤ hiK K' k := by
  unfold hiK
  by_cases h : k = 4 ∨ k = 14 ∨ k = 26
  · simp only [h, if_true]
    split
    · omega
    · split
      · omega
      · exact hK
  · simp only [h, if_false]; exact Int.le_refl _
theorem okIx.k {K K' j v : Int} (h : okIx K j v) (hK : K ≤ K') : okIx K' j v := h.imp id (fun q => ⟨q.1, Int.le_trans q.2 (hiK.k hK)⟩)
theorem RowB.k {K K' : Int} {N : Int → Int} (h : RowB K N) (hK : K ≤ K') (hK' : K' ≤ 100000000) : RowB K' N := RowB.of hK' (fun j j0 j1 => (h.ix j j0 j1).k hK)
theorem RowB.u {K : Int} {N : Int → Int} (h : RowB K N) {z v : Int} (hv : okIx K z v) : RowB K (uN N z v) := RowB.of h.1 (fun j j0 j1 => by
  unfold uN
  split
  · next q => rw [q]; exact hv
  · exact h.ix j j0 j1)
/-- all that is always true of a row: its bounds, pins own their cells, all purses together -/
def pursS (N : Int → Int) : Int := sumI (fun n => N (169 + 9 * n + 4)) 6
def ROK (K : Int) (N : Int → Int) : Prop := RowB K N ∧ (∀ n, isN N n → PinO N n) ∧ pursS N ≤ K
theorem ROK.k {K K' : Int} {N : Int → Int} (h : ROK K N) (hK : K ≤ K') (hK' : K' ≤ 100000000) : ROK K' N := ⟨h.1.k hK hK', h.2.1, by have := h.2.2; omega⟩
theorem pursS_congr {N N' : Int → Int} (h : ∀ m, 0 ≤ m → m < 6 → N' (169 + 9 * m + 4) = N (169 + 9 * m + 4)) : pursS N' = pursS N := sumI_c2 6 (fun i hi => h i (by omega) (by omega))
/-- a change that leaves pins and purses -/
theorem ROK.off {K : Int} {N N' : Int → Int} (h : ROK K N) (hB : RowB K N') (e5 : N' 5 = N 5) (e : ∀ m w, 0 ≤ m → m < 6 → (w = 0 ∨ w = 1 ∨ w = 2 ∨ w = 4) → N' (169 + 9 * m + w) = N (169 + 9 * m + w)) (ec : ∀ c, inC c → ∀ n, 0 ≤ n → n < 6 → N (7 + c) = 11 + n → N' (7 + c) = 11 + n) : ROK K N' := by
  refine ⟨hB, fun n hn k k0 k1 hp => ?_, ?_⟩
  · have hn' : isN N n := ⟨hn.1, by have := hn.2; omega⟩
    have hn6 : n < 6 := by have := h.1.2.1.1; have := hn'.2; omega
    have hw : k = 0 ∨ k = 1 ∨ k = 2 ∨ k = 4 := by omega
    rw [e n k hn.1 hn6 hw] at hp ⊢
    obtain ⟨a, b⟩ := h.2.1 n hn' k k0 k1 hp
    have hb := (h.1.pins hn.1 hn6 k k0 k1).2
    refine ⟨ec _ (by unfold inC; omega) n hn.1 hn6 a, ?_⟩
    rw [show 88 + N (169 + 9 * n + k) = 7 + (81 + N (169 + 9 * n + k)) from by omega] at b ⊢
    exact ec _ (by unfold inC; omega) n hn.1 hn6 b
  · rw [pursS_congr (fun m m0 m1 => e m 4 m0 m1 (by omega))]; exact h.2.2
theorem ROK.act {K : Int} {N : Int → Int} (h : ROK K N) (hK : K + 1 ≤ 100000000) : ROK (K + 1) (actN N) := by
  have h4 := h.1.2.2.2.1
  have hB : RowB (K + 1) (actN N) := (h.1.k (by omega) hK).u (okIx.s (by decide) (by decide) (show 0 ≤ N 4 + 1 ∧ N 4 + 1 ≤ K + 1 by omega))
  refine (h.k (by omega) hK).off hB ?_ ?_ ?_
  · unfold actN uN; rw [if_neg (by decide)]
  · intro m w m0 m1 hw; unfold actN uN; rw [if_neg (by omega)]
  · intro c hc n n0 n1 e; unfold inC at hc; unfold actN uN; rw [if_neg (by omega)]; exact e
theorem ROK.los {K : Int} {N : Int → Int} (h : ROK K N) {m : Int} (hm : 0 ≤ m ∧ m < 6) : ROK K (losN N m) := by
  have hB : RowB K (losN N m) := by
    refine RowB.u (RowB.of h.1.1 (fun j j0 j1 => ?_)) (okIx.n hm.1 hm.2 (by decide) (by decide) (show (0 : Int) ≤ 0 ∧ (0 : Int) ≤ 1 by decide))
    unfold losR
    split
    · exact okIx.c (by omega) (by omega) (by decide)
    · exact h.1.ix j j0 j1
  refine h.off hB (losN_off (by omega) (by omega)) ?_ ?_
  · intro n w n0 n1 hw; exact losN_off (by omega) (by omega)
  · intro c hc n n0 n1 e
    unfold inC at hc
    unfold losN uN losR
    rw [if_neg (by omega), if_neg (by omega)]; exact e
theorem ROK.rip {K : Int} {N : Int → Int} (h : ROK K N) (hK : K + 1 ≤ 100000000) (n : Int) : ROK (K + 1) (ripN N n) := by
  unfold ripN
  split
  · next q => exact (h.los (by have := h.1.2.1.1; have := q.1; unfold isN at this; omega)).act hK
  · exact h.k (by omega) hK
theorem ROK.pass {K : Int} {N : Int → Int} (h : ROK K N) (hK : K + 100 ≤ 100000000) (a : Int) : ROK (K + 100) (passN N a) := by
  have h4 := h.1.2.2.2.1
  unfold passN
  split
  · next q =>
    refine (h.k (by omega) hK).off ((h.1.k (by omega) hK).u (okIx.s (by decide) (by decide) (show 0 ≤ N 4 + a ∧ N 4 + a ≤ K + 100 by omega))) ?_ ?_ ?_
    · unfold uN; rw [if_neg (by decide)]
    · intro m w m0 m1 hw; unfold uN; rw [if_neg (by omega)]
    · intro c hc n n0 n1 e; unfold inC at hc; unfold uN; rw [if_neg (by omega)]; exact e
  · exact h.k (by omega) hK
theorem ROK.app {K : Int} {N : Int → Int} (h : ROK K N) (hK : K + 1 ≤ 100000000) (c : Int) : ROK (K + 1) (appN N c) := by
  have h6 := h.1.2.1.2
  unfold appN
  split
  · next q =>
    have q1 := q.1
    unfold isC at q1
    refine ROK.act ?_ hK
    refine h.off (h.1.u (okIx.q q1.1 (by decide) (by decide) (show (0 : Int) ≤ 1 ∧ (1 : Int) ≤ 2 by decide))) ?_ ?_ ?_
    · unfold uN; rw [if_neg (by omega)]
    · intro m w m0 m1 hw; unfold uN; rw [if_neg (by omega)]
    · intro c hc n n0 n1 e; unfold inC at hc; unfold uN; rw [if_neg (by omega)]; exact e
  · exact h.k (by omega) hK
