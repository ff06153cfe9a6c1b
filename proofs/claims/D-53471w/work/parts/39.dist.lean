/-! ROUTES are unique -/
set_option maxRecDepth 100000
set_option maxHeartbeats 4000000
/-- distances up to a bound F, seen from cells that can be entered -/
def Dst (N : Int → Int) (n dg : Int) (J : Int → Int) (F : Int) (g : Int → Int) : Prop := (∀ c, inC c → 0 ≤ g c ∧ g c ≤ F) ∧ (∀ c, inC c → J c = 1 → g c = 0) ∧ (∀ c, inC c → en N n dg J c → FarS N n dg J F g c) ∧ ∀ c k, inC c → en N n dg J c → 0 ≤ k → k < 3 → FarB N n dg J g F c k
def PathG (N : Int → Int) (n dg : Int) (J : Int → Int) (p F : Int) (g : Int → Int) (r : Option (List Int × Int)) : Prop := Dst N n dg J F g ∧ (let a := if g (81 + p) < g p then 81 + p else p; (g a = F ∧ r = none) ∨ (g a < F ∧ ∃ l : List Int, IsPath N n dg J F g a l ∧ r = some (l, g a)))
def RouteG (N : Int → Int) (n dg F : Int) (r : Option (List Int × Int)) : Prop := ∃ g1 r1, PathG N n dg (J00 N n) (N (169 + 9 * n + 1)) F g1 r1 ∧ match r1 with
  | none => r = none
  | some (l1, c1) => (N (169 + 9 * n + 2) < 0 ∧ r = some (l1, c1)) ∨ (0 ≤ N (169 + 9 * n + 2) ∧ ∃ g2 r2, PathG N n dg (joinP N n (J00 N n) l1) (N (169 + 9 * n + 2)) F g2 r2 ∧ match r2 with
    | none => r = none
    | some (l2, c2) => r = some (l1 ++ l2, c1 + c2))
theorem PathR.g {N : Int → Int} {n dg : Int} {J : Int → Int} {p : Int} {g : Int → Int} {r : Option (List Int × Int)} (h : PathR N n dg J p g r) : PathG N n dg J p 1000000000 g r := by
  obtain ⟨h1, h2⟩ := h
  refine ⟨⟨h1.1.1, h1.1.2.1, fun c hc _ => h1.s hc, fun c k hc _ k0 k1 => h1.2 c k hc k0 k1⟩, ?_⟩
  dsimp only at h2 ⊢
  rcases h2 with h2 | ⟨h2, l, h3, -, h4⟩
  · exact Or.inl h2
  · exact Or.inr ⟨by omega, l, h3, h4⟩
theorem RouteR.g {N : Int → Int} {n dg : Int} {r : Option (List Int × Int)} (h : RouteR N n dg r) : RouteG N n dg 1000000000 r := by
  obtain ⟨g1, r1, hp, hm⟩ := h
  refine ⟨g1, r1, hp.g, ?_⟩
  match r1, hm with
  | none, hm => exact hm
  | some (l1, c1), hm =>
    rcases hm with hm | ⟨h0, g2, r2, hp2, hm2⟩
    · exact Or.inl hm
    · exact Or.inr ⟨h0, g2, r2, hp2.g, hm2⟩
theorem Dst.le {N : Int → Int} {n dg : Int} {J : Int → Int} {F F' : Int} {g g' : Int → Int} (hr : RC N) (hF : 20000 ≤ F') (h : Dst N n dg J F g) (h' : Dst N n dg J F' g') : ∀ (m : Nat) (c : Int), (g c).toNat = m → inC c → en N n dg J c → g c < F → g' c < F' ∧ g' c ≤ g c := by
  intro m
  induction m using Nat.strongRecOn with
  | ind m ih =>
  intro c hm hc he hl
  have g0 := h.1 c hc
  have lb := lessC_b (g := g) hc
  have fb := (far_b hr (fun c hc => (h.1 c hc).1) h.2.1 h.2.2.1 _ c rfl hc (h.2.2.1 c hc he) hl).1
  have key : g' c ≤ g c := by
    by_cases hj : J c = 1
    · rw [h'.2.1 c hc hj]; exact g0.1
    · obtain ⟨k, hk, a, b, d, e⟩ := h.2.2.1 c hc he hj hl
      have g1 := h.1 _ a
      obtain ⟨q1, q2⟩ := ih (g (nb c k)).toNat (by omega) (nb c k) rfl a b (by omega)
      have := h'.2.2.2 c k hc he hk.1 hk.2 hj a (by omega) b
      omega
  exact ⟨by omega, key⟩
theorem Dst.eq {N : Int → Int} {n dg : Int} {J : Int → Int} {F F' : Int} {g g' : Int → Int} (hr : RC N) (hF : 20000 ≤ F) (hF' : 20000 ≤ F') (h : Dst N n dg J F g) (h' : Dst N n dg J F' g') {c : Int} (hc : inC c) (he : en N n dg J c) : (g c < F ∧ g' c < F' ∧ g c = g' c) ∨ (g c = F ∧ g' c = F') := by
  have b1 := h.1 c hc
  have b2 := h'.1 c hc
  by_cases h1 : g c < F
  · have q1 := Dst.le hr hF' h h' _ c rfl hc he h1
    have q2 := Dst.le hr hF h' h _ c rfl hc he q1.1
    exact Or.inl ⟨h1, q1.1, by omega⟩
  · by_cases h2 : g' c < F'
    · have q2 := Dst.le hr hF h' h _ c rfl hc he h2
      omega
    · exact Or.inr ⟨by omega, by omega⟩
theorem nxt_eq {N : Int → Int} {n dg : Int} {J : Int → Int} {F F' : Int} {g g' : Int → Int} (hr : RC N) (hF : 20000 ≤ F) (hF' : 20000 ≤ F') (h : Dst N n dg J F g) (h' : Dst N n dg J F' g') {c : Int} (hc : inC c) (he : en N n dg J c) (hl : g c < F) : nxt N n dg J F g c = nxt N n dg J F' g' c := by
  have hcE := (Dst.eq hr hF hF' h h' hc he).resolve_right (fun q => by omega)
  have key : ∀ k, tk N n dg J F g c k ↔ tk N n dg J F' g' c k := by
    intro k
    unfold tk
    constructor
    · rintro ⟨a, b, d, e⟩
      rcases Dst.eq hr hF hF' h h' a d with ⟨q1, q2, q3⟩ | ⟨q1, q2⟩
      · exact ⟨a, by omega, d, by rw [← q3, ← hcE.2.2]; exact e⟩
      · exact absurd q1 b
    · rintro ⟨a, b, d, e⟩
      rcases Dst.eq hr hF hF' h h' a d with ⟨q1, q2, q3⟩ | ⟨q1, q2⟩
      · exact ⟨a, by omega, d, by rw [q3, hcE.2.2]; exact e⟩
      · exact absurd q2 b
  unfold nxt
  simp only [key]
theorem nxt_en {N : Int → Int} {n dg : Int} {J : Int → Int} {F : Int} {g : Int → Int} (h : Dst N n dg J F g) {c : Int} (hc : inC c) (he : en N n dg J c) (hj : J c ≠ 1) (hl : g c < F) : inC (nxt N n dg J F g c) ∧ en N n dg J (nxt N n dg J F g c) := by
  obtain ⟨k, hk, a, b, d, e⟩ := h.2.2.1 c hc he hj hl
  obtain ⟨k', hk', ⟨a', a2, b', e'⟩, hx⟩ := nxt_of (N := N) (n := n) (dg := dg) (J := J) (F := F) (g := g) (c := c) hk ⟨a, by omega, b, e⟩
  rw [hx]
  exact ⟨a', b'⟩
theorem IsPath.eq {N : Int → Int} {n dg : Int} {J : Int → Int} {F F' : Int} {g g' : Int → Int} (hr : RC N) (hF : 20000 ≤ F) (hF' : 20000 ≤ F') (h : Dst N n dg J F g) (h' : Dst N n dg J F' g') : ∀ (l l' : List Int) (c : Int), inC c → en N n dg J c → IsPath N n dg J F g c l → IsPath N n dg J F' g' c l' → l = l'
  | [], _, _, _, _, p, _ => p.elim
  | _ :: _, [], _, _, _, _, p => p.elim
  | x :: t, y :: t', c, hc, he, ⟨e1, _, p⟩, ⟨e2, _, p'⟩ => by
    rw [e1, e2]
    rcases p with ⟨j, e⟩ | ⟨j, hl, p⟩
    · rcases p' with ⟨j', e'⟩ | ⟨j', _, _⟩
      · rw [e, e']
      · exact absurd j j'
    · rcases p' with ⟨j', e'⟩ | ⟨j', hl', p'⟩
      · exact absurd j' j
      · have hn := nxt_en h hc he j hl
        rw [← nxt_eq hr hF hF' h h' hc he hl] at p'
        rw [IsPath.eq hr hF hF' h h' t t' _ hn.1 hn.2 p p']
theorem PathG.eq {N : Int → Int} {n dg : Int} {J : Int → Int} {p F F' : Int} {g g' : Int → Int} {r r' : Option (List Int × Int)} (hr : RC N) (hF : 20000 ≤ F) (hF' : 20000 ≤ F') (hp : 0 ≤ p ∧ p ≤ 80) (e1 : en N n dg J p) (e2 : en N n dg J (81 + p)) (h : PathG N n dg J p F g r) (h' : PathG N n dg J p F' g' r') : r = r' := by
  obtain ⟨h1, h2⟩ := h
  obtain ⟨h1', h2'⟩ := h'
  have c1 : inC p := by unfold inC; omega
  have c2 : inC (81 + p) := by unfold inC; omega
  have q1 := Dst.eq hr hF hF' h1 h1' c1 e1
  have q2 := Dst.eq hr hF hF' h1 h1' c2 e2
  have b1 := h1.1 p c1
  have b2 := h1.1 (81 + p) c2
  have b3 := h1'.1 p c1
  have b4 := h1'.1 (81 + p) c2
  have ea : (if g (81 + p) < g p then 81 + p else p) = (if g' (81 + p) < g' p then 81 + p else p) := by
    by_cases z : g (81 + p) < g p
    · rw [if_pos z, if_pos (by omega)]
    · rw [if_neg z, if_neg (by omega)]
  dsimp only at h2 h2'
  rw [← ea] at h2'
  have ca : inC (if g (81 + p) < g p then 81 + p else p) := by split <;> assumption
  have eea : en N n dg J (if g (81 + p) < g p then 81 + p else p) := by split <;> assumption
  generalize (if g (81 + p) < g p then 81 + p else p) = a at *
  have qa := Dst.eq hr hF hF' h1 h1' ca eea
  rcases h2 with ⟨x1, x2⟩ | ⟨x1, l, x2, x3⟩
  · rcases h2' with ⟨y1, y2⟩ | ⟨y1, l', y2, y3⟩
    · rw [x2, y2]
    · omega
  · rcases h2' with ⟨y1, y2⟩ | ⟨y1, l', y2, y3⟩
    · omega
    · rw [x3, y3, IsPath.eq hr hF hF' h1 h1' l l' a ca eea x2 y2]
      have : g a = g' a := by omega
      rw [this]
/-- a net's pins are its own cells -/
def PinO (N : Int → Int) (n : Int) : Prop := ∀ k, 0 ≤ k → k < 3 → 0 ≤ N (169 + 9 * n + k) → N (7 + N (169 + 9 * n + k)) = 11 + n ∧ N (88 + N (169 + 9 * n + k)) = 11 + n
theorem PinO.en {N : Int → Int} {n dg : Int} {J : Int → Int} (h : PinO N n) {k : Int} (k0 : 0 ≤ k) (k1 : k < 3) (hp : 0 ≤ N (169 + 9 * n + k)) : en N n dg J (N (169 + 9 * n + k)) ∧ en N n dg J (81 + N (169 + 9 * n + k)) := by
  obtain ⟨a, b⟩ := h k k0 k1 hp
  exact ⟨Or.inl (Or.inr (Or.inr a)), Or.inl (Or.inr (Or.inr (by rw [show 7 + (81 + N (169 + 9 * n + k)) = 88 + N (169 + 9 * n + k) from by omega]; exact b)))⟩
theorem RouteG.eq {N : Int → Int} {n dg F F' : Int} {r r' : Option (List Int × Int)} (hr : RC N) (hF : 20000 ≤ F) (hF' : 20000 ≤ F') (hO : PinO N n) (p1 : 0 ≤ N (169 + 9 * n + 1) ∧ N (169 + 9 * n + 1) ≤ 80) (p2 : N (169 + 9 * n + 2) ≤ 80) (h : RouteG N n dg F r) (h' : RouteG N n dg F' r') : r = r' := by
  obtain ⟨g1, r1, a1, a2⟩ := h
  obtain ⟨g1', r1', a1', a2'⟩ := h'
  have e1 := hO.en (dg := dg) (J := J00 N n) (k := 1) (by decide) (by decide) p1.1
  have er := PathG.eq hr hF hF' p1 e1.1 e1.2 a1 a1'
  subst er
  match r1, a2, a2' with
  | none, a2, a2' => rw [a2, a2']
  | some (l1, c1), a2, a2' =>
    rcases a2 with ⟨z, a2⟩ | ⟨z, g2, r2, b1, b2⟩
    · rcases a2' with ⟨z', a2'⟩ | ⟨z', _⟩
      · rw [a2, a2']
      · omega
    · rcases a2' with ⟨z', _⟩ | ⟨z', g2', r2', b1', b2'⟩
      · omega
      · have e2 := hO.en (dg := dg) (J := joinP N n (J00 N n) l1) (k := 2) (by decide) (by decide) z
        have er := PathG.eq hr hF hF' ⟨z, p2⟩ e2.1 e2.2 b1 b1'
        subst er
        match r2, b2, b2' with
        | none, b2, b2' => rw [b2, b2']
        | some (l2, c2), b2, b2' => rw [b2, b2']
/-- the route of a net -/
noncomputable def rtF (N : Int → Int) (n dg : Int) : Option (List Int × Int) := Classical.epsilon (fun r => ∃ F, 20000 ≤ F ∧ RouteG N n dg F r)
theorem rtF_eq {N : Int → Int} {n dg F : Int} {r : Option (List Int × Int)} (hr : RC N) (hF : 20000 ≤ F) (hO : PinO N n) (p1 : 0 ≤ N (169 + 9 * n + 1) ∧ N (169 + 9 * n + 1) ≤ 80) (p2 : N (169 + 9 * n + 2) ≤ 80) (h : RouteG N n dg F r) : r = rtF N n dg := by
  obtain ⟨F', hF', h'⟩ := Classical.epsilon_spec (p := fun r => ∃ F, 20000 ≤ F ∧ RouteG N n dg F r) ⟨r, F, hF, h⟩
  exact RouteG.eq hr hF hF' hO p1 p2 h h'
