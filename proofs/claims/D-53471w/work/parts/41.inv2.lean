/-! WHAT IS ALWAYS TRUE, 2: the cells of a route; lay -/
set_option maxRecDepth 100000
set_option maxHeartbeats 4000000
/-- a cell that a route may go through -/
abbrev okCell (N : Int → Int) (n dg x : Int) : Prop := N (7 + x) = 0 ∨ N (7 + x) = 11 + n ∨ (dg = 1 ∧ 1 ≤ N (7 + x) ∧ N (7 + x) ≤ 6)
abbrev okJ (N : Int → Int) (n dg : Int) (J : Int → Int) : Prop := ∀ c, inC c → J c = 1 → okCell N n dg c
theorem en_ok {N : Int → Int} {n dg : Int} {J : Int → Int} (hJ : okJ N n dg J) {c : Int} (hc : inC c) (he : en N n dg J c) : okCell N n dg c := by
  rcases he with (h | h | h) | ⟨h, h'⟩
  · exact hJ c hc h
  · exact Or.inl h
  · exact Or.inr (Or.inl h)
  · exact Or.inr (Or.inr ⟨h, h'⟩)
theorem path_ok {N : Int → Int} {n dg : Int} {J : Int → Int} {F : Int} {g : Int → Int} (hJ : okJ N n dg J) (h : Dst N n dg J F g) : ∀ (l : List Int) (c : Int), inC c → en N n dg J c → IsPath N n dg J F g c l → ∀ x ∈ l, inC x ∧ okCell N n dg x
  | [], _, _, _, p, _, _ => p.elim
  | y :: t, c, hc, he, ⟨e1, _, p⟩, x, hx => by
    rcases List.mem_cons.mp hx with q | q
    · rw [q, e1]; exact ⟨hc, en_ok hJ hc he⟩
    · rcases p with ⟨_, e⟩ | ⟨j, hl, p⟩
      · rw [e] at q; cases q
      · have hn := nxt_en h hc he j hl
        exact path_ok hJ h t _ hn.1 hn.2 p x q
theorem okJ_u {N : Int → Int} {n dg : Int} {J : Int → Int} (hJ : okJ N n dg J) {z : Int} (hz : okCell N n dg z) : okJ N n dg (uN J z 1) := by
  intro c hc h
  unfold uN at h
  split at h
  · next q => rw [q]; exact hz
  · exact hJ c hc h
theorem okJ_fold {N : Int → Int} {n dg : Int} : ∀ (l : List Int) (J : Int → Int), okJ N n dg J → (∀ x ∈ l, okCell N n dg x) → okJ N n dg (foldJ J l)
  | [], _, h, _ => h
  | y :: t, _, h, hl => okJ_fold t _ (okJ_u h (hl y List.mem_cons_self)) (fun x hx => hl x (List.mem_cons_of_mem _ hx))
theorem okJ_spj {N : Int → Int} {n dg : Int} {J : Int → Int} (hJ : okJ N n dg J) (hO : PinO N n) {k : Int} (k0 : 0 ≤ k) (k1 : k < 3) : okJ N n dg (spj J (N (169 + 9 * n + k))) := by
  unfold spj
  split
  · next q =>
    obtain ⟨a, b⟩ := hO k k0 k1 q.1
    exact okJ_u (okJ_u hJ (Or.inr (Or.inl a))) (Or.inr (Or.inl (by rw [show 7 + (81 + N (169 + 9 * n + k)) = 88 + N (169 + 9 * n + k) from by omega]; exact b)))
  · exact hJ
theorem okJ_join {N : Int → Int} {n dg : Int} {J : Int → Int} (hJ : okJ N n dg J) (hO : PinO N n) {l : List Int} (hl : ∀ x ∈ l, okCell N n dg x) : okJ N n dg (joinP N n J l) :=
  okJ_spj (okJ_spj (okJ_spj (okJ_fold l J hJ hl) hO (by decide) (by decide)) hO (by decide) (by decide)) hO (by decide) (by decide)
theorem okJ_00 {N : Int → Int} {n dg : Int} (hO : PinO N n) (hp : 0 ≤ N (169 + 9 * n + 0)) : okJ N n dg (J00 N n) := by
  obtain ⟨a, b⟩ := hO 0 (by decide) (by decide) hp
  unfold J00 j2
  exact okJ_u (okJ_u (fun c _ h => absurd h (by decide)) (Or.inr (Or.inl a))) (Or.inr (Or.inl (by rw [show 7 + (81 + N (169 + 9 * n + 0)) = 88 + N (169 + 9 * n + 0) from by omega]; exact b)))
theorem PathG.ok {N : Int → Int} {n dg : Int} {J : Int → Int} {p F : Int} {g : Int → Int} {l : List Int} {c : Int} (hJ : okJ N n dg J) (hp : 0 ≤ p ∧ p ≤ 80) (e1 : en N n dg J p) (e2 : en N n dg J (81 + p)) (h : PathG N n dg J p F g (some (l, c))) : ∀ x ∈ l, inC x ∧ okCell N n dg x := by
  obtain ⟨h1, h2⟩ := h
  dsimp only at h2
  rcases h2 with ⟨_, h2⟩ | ⟨_, l', h3, h4⟩
  · cases h2
  · obtain ⟨rfl, rfl⟩ : l = l' ∧ c = _ := by simpa using h4
    refine path_ok hJ h1 l _ ?_ ?_ h3
    · unfold inC; split <;> omega
    · split <;> assumption
theorem RouteG.ok {N : Int → Int} {n dg F : Int} {l : List Int} {c : Int} (hO : PinO N n) (p0 : 0 ≤ N (169 + 9 * n + 0)) (p1 : 0 ≤ N (169 + 9 * n + 1) ∧ N (169 + 9 * n + 1) ≤ 80) (p2 : N (169 + 9 * n + 2) ≤ 80) (h : RouteG N n dg F (some (l, c))) : ∀ x ∈ l, inC x ∧ okCell N n dg x := by
  obtain ⟨g1, r1, a1, a2⟩ := h
  have e1 := hO.en (dg := dg) (J := J00 N n) (k := 1) (by decide) (by decide) p1.1
  match r1, a1, a2 with
  | some (l1, c1), a1, a2 =>
    have o1 := a1.ok (okJ_00 hO p0) p1 e1.1 e1.2
    rcases a2 with ⟨z, a2⟩ | ⟨z, g2, r2, b1, b2⟩
    · obtain ⟨rfl, rfl⟩ : l = l1 ∧ c = c1 := by simpa using a2
      exact o1
    · match r2, b1, b2 with
      | some (l2, c2), b1, b2 =>
        have e2 := hO.en (dg := dg) (J := joinP N n (J00 N n) l1) (k := 2) (by decide) (by decide) z
        have o2 := b1.ok (okJ_join (okJ_00 hO p0) hO (fun x hx => (o1 x hx).2)) ⟨z, p2⟩ e2.1 e2.2
        obtain ⟨rfl, rfl⟩ : l = l1 ++ l2 ∧ c = c1 + c2 := by simpa using b2
        intro x hx
        rcases List.mem_append.mp hx with q | q
        · exact o1 x q
        · exact o2 x q
theorem ROK.wir {K : Int} {N : Int → Int} (h : ROK K N) {m : Int} {l : List Int} (hm : 0 ≤ m ∧ m < 6) (hl : ∀ x ∈ l, inC x ∧ (N (7 + x) = 11 + m ∨ N (7 + x) ≤ 6)) : ROK K (wirN N m l) := by
  have off : ∀ j, j < 7 ∨ 169 ≤ j → wirR N m l j = N j := by
    intro j hj
    unfold wirR
    rw [if_neg]
    intro q
    have := (hl _ q).1
    unfold inC at this
    omega
  have hB : RowB K (wirN N m l) := by
    refine RowB.u (RowB.of h.1.1 (fun j j0 j1 => ?_)) (okIx.n hm.1 hm.2 (by decide) (by decide) (show (0 : Int) ≤ 1 ∧ (1 : Int) ≤ 1 by decide))
    by_cases q : 7 ≤ j ∧ j < 169
    · unfold wirR
      split
      · exact okIx.c q.1 q.2 (by split <;> omega)
      · exact h.1.ix j j0 j1
    · rw [off j (by omega)]; exact h.1.ix j j0 j1
  refine h.off hB ?_ ?_ ?_
  · unfold wirN uN; rw [if_neg (by omega), off _ (by omega)]
  · intro n w n0 n1 hw; unfold wirN uN; rw [if_neg (by omega), off _ (by omega)]
  · intro c hc n n0 n1 e
    unfold inC at hc
    unfold wirN uN
    rw [if_neg (by omega)]
    unfold wirR
    split
    · next q =>
      have := (hl _ q).2
      rw [show 7 + (7 + c - 7) = 7 + c from by omega] at this
      by_cases z : n = m
      · subst z; rw [if_pos e]
      · omega
    · exact e
theorem ROK.lay {K : Int} {N : Int → Int} (h : ROK K N) (hK : K + 1 ≤ 100000000) {n : Int} {R : Option (List Int × Int)} (hR : isN N n → ¬ jnd N n → RouteR N n 0 R) : ROK (K + 1) (layN N n R) := by
  unfold layN
  split
  · next q =>
    have hn := q.1
    have hn6 : 0 ≤ n ∧ n < 6 := by have := h.1.2.1.1; unfold isN at hn; omega
    have nb := h.1.2.2.2.2.2.1 n hn6.1 hn6.2
    have hr := hR q.1 q.2
    match R, hr with
    | none, _ => exact h.k (by omega) hK
    | some (l, c), hr =>
      have ok := hr.g.ok (h.2.1 n hn) nb.1.1 nb.2.1 nb.2.2.1.2
      exact (h.wir hn6 (fun x hx => ⟨(ok x hx).1, by rcases (ok x hx).2 with z | z | z <;> omega⟩)).act hK
  · exact h.k (by omega) hK
