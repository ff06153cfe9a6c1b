/-! FRAMES, lists in the heap, linked hash maps: definitions -/
set_option maxRecDepth 100000
theorem Tri.ofQ {X : gX} {Y : gM} {d : Nat} {Q : Option Value → gH → Prop} {k n : Nat} {G : gH} {args : List Value} (hp : plainName (my Y).cls = true) (hl : (lg_sl args).length ≤ mL Y) (h : ∀ Q' : Option Value → gH → Prop, (∀ r G', Q r G' → Q' r G') → Wp X Y d Q' k n G 0 (gEnt args (mL Y)) []) : Tri X d Y args k n G Q := Tri.of hp hl (h Q (fun _ _ q => q))
theorem Tri.mo {X : gX} {Y : gM} {d : Nat} {Q : Option Value → gH → Prop} {k n : Nat} {G : gH} {args : List Value} {Q' : Option Value → gH → Prop} (h : Tri X d Y args k n G Q) (hq : ∀ r G', Q r G' → Q' r G') : Tri X d Y args k n G Q' := h.mono (k' := 0) (n' := 0) (d' := 0) hq
/-- objects that never change once they are made: cells, key sets -/
abbrev frz (t : Nat) : Prop := t = 8 ∨ t = 22
/-- nothing old but S changes, and nothing frozen -/
def Fr (S : Nat → Prop) (G G' : gH) : Prop := gs G ≤ gs G' ∧ (∀ a, a < gs G → gc G' a = gc G a ∧ gl G' a = gl G a) ∧ ∀ a, a < gs G → (S a → frz (gc G a)) → gm G' a = gm G a
theorem Fr.refl {S : Nat → Prop} {G : gH} : Fr S G G := ⟨Nat.le_refl _, fun _ _ => ⟨rfl, rfl⟩, fun _ _ _ => rfl⟩
theorem Fr.trans {S S' : Nat → Prop} {G G' G'' : gH} (h : Fr S G G') (h' : Fr S' G' G'') (hs : ∀ a, a < gs G → S' a → S a) : Fr S G G'' := by
  refine ⟨Nat.le_trans h.1 h'.1, fun a ha => ?_, fun a ha hn => ?_⟩
  · have h2 := h.2.1 a ha
    have h3 := h'.2.1 a (Nat.lt_of_lt_of_le ha h.1)
    exact ⟨h3.1.trans h2.1, h3.2.trans h2.2⟩
  · exact (h'.2.2 a (Nat.lt_of_lt_of_le ha h.1) (fun q => by rw [(h.2.1 a ha).1]; exact hn (hs a ha q))).trans (h.2.2 a ha hn)
theorem Fr.mono {S S' : Nat → Prop} {G G' : gH} (h : Fr S G G') (hs : ∀ a, a < gs G → S a → S' a) : Fr S' G G' := ⟨h.1, h.2.1, fun a ha hn => h.2.2 a ha (fun q => hn (hs a ha q))⟩
theorem Fr.put {S : Nat → Prop} {G G' : gH} (h : Fr S G G') {a j : Nat} {v : Value} (ha : (S a ∧ ¬ frz (gc G' a)) ∨ gs G ≤ a) : Fr S G (gput G' a j v) := by
  refine ⟨h.1, h.2.1, fun b hb hn => ?_⟩
  rw [← h.2.2 b hb hn]
  funext i
  rw [gm_put, if_neg]
  rintro ⟨rfl, -⟩
  rcases ha with q | q
  · rw [(h.2.1 b hb).1] at q
    exact q.2 (hn q.1)
  · omega
theorem Fr.new {S : Nat → Prop} {G G' : gH} (h : Fr S G G') {t n : Nat} {f : Nat → Value} : Fr S G (gnew G' t n f) := by
  have h1 := h.1
  refine ⟨by rw [gs_new]; omega, fun a ha => ?_, fun a ha hn => ?_⟩
  · rw [gc_new, gl_new, if_neg (by omega), if_neg (by omega)]; exact h.2.1 a ha
  · rw [← h.2.2 a ha hn]
    funext i
    rw [gm_new, if_neg (by omega)]
theorem Fr.cpy {S : Nat → Prop} {G G' : gH} (h : Fr S G G') {a0 a k : Nat} (ha : (S a ∧ ¬ frz (gc G' a)) ∨ gs G ≤ a) : Fr S G (gcpy G' a0 a k) := by
  refine ⟨h.1, h.2.1, fun b hb hn => ?_⟩
  rw [← h.2.2 b hb hn]
  funext i
  rw [gm_cpy, if_neg]
  rintro ⟨rfl, -⟩
  rcases ha with q | q
  · rw [(h.2.1 b hb).1] at q
    exact q.2 (hn q.1)
  · omega
theorem Fr.c {S : Nat → Prop} {G G' : gH} (h : Fr S G G') {a : Nat} (ha : a < gs G) : gc G' a = gc G a := (h.2.1 a ha).1
theorem Fr.l {S : Nat → Prop} {G G' : gH} (h : Fr S G G') {a : Nat} (ha : a < gs G) : gl G' a = gl G a := (h.2.1 a ha).2
theorem Fr.m {S : Nat → Prop} {G G' : gH} (h : Fr S G G') {a : Nat} (ha : a < gs G) (hn : ¬ S a) : gm G' a = gm G a := h.2.2 a ha (fun q => absurd q hn)
theorem Fr.z {S : Nat → Prop} {G G' : gH} (h : Fr S G G') {a : Nat} (ha : a < gs G) (hn : frz (gc G a)) : gm G' a = gm G a := h.2.2 a ha (fun _ => hn)
theorem gc_nn {G : gH} {t n b : Nat} {f : Nat → Value} (h : b < gs G) : gc (gnew G t n f) b = gc G b := by rw [gc_new, if_neg (by omega)]
theorem gc_ne {G : gH} {t n : Nat} {f : Nat → Value} : gc (gnew G t n f) (gs G) = t := by rw [gc_new, if_pos rfl]
theorem gl_nn {G : gH} {t n b : Nat} {f : Nat → Value} (h : b < gs G) : gl (gnew G t n f) b = gl G b := by rw [gl_new, if_neg (by omega)]
theorem gl_ne {G : gH} {t n : Nat} {f : Nat → Value} : gl (gnew G t n f) (gs G) = n := by rw [gl_new, if_pos rfl]
theorem gm_nn {G : gH} {t n b j : Nat} {f : Nat → Value} (h : b < gs G) : gm (gnew G t n f) b j = gm G b j := by rw [gm_new, if_neg (by omega)]
theorem gm_ne {G : gH} {t n j : Nat} {f : Nat → Value} : gm (gnew G t n f) (gs G) j = f j := by rw [gm_new, if_pos rfl]
theorem ne_tag {G : gH} {a b s t : Nat} (h : gc G a = s) (h' : gc G b = t) (hst : s ≠ t) : a ≠ b := fun q => hst (by rw [← h, ← h', q])
/-- a list in the heap, linked by field f -/
def chn (G : gH) (f : Nat) : Value → List Nat → Prop
  | v, [] => v = .null
  | v, a :: t => v = .ref a ∧ chn G f (gm G a f) t
theorem chn.congr {G G' : gH} {f : Nat} : ∀ (l : List Nat) (v : Value), (∀ a ∈ l, gm G' a f = gm G a f) → chn G f v l → chn G' f v l
  | [], _, _, h => h
  | a :: t, v, hc, ⟨h1, h2⟩ => ⟨h1, by rw [hc a List.mem_cons_self]; exact chn.congr t _ (fun b hb => hc b (List.mem_cons_of_mem _ hb)) h2⟩
theorem chn.snoc {G : gH} {f b x : Nat} : ∀ (l : List Nat) (v : Value), chn G f v (l ++ [x]) → (l ++ [x]).Nodup → b ∉ l ++ [x] → gm G b f = .null → chn (gput G x f (.ref b)) f v (l ++ [x] ++ [b])
  | [], v, h, _, hb, hn => by
    have hbx : b ≠ x := fun q => hb (by simp [q])
    exact ⟨h.1, by rw [gm_pe], by show gm _ b f = .null; rw [gm_pn (fun q => hbx q.1)]; exact hn⟩
  | a :: t, v, h, hd, hb, hn => by
    have hd' := List.nodup_cons.mp hd
    have hax : a ≠ x := fun q => hd'.1 (by simp [q])
    refine ⟨h.1, ?_⟩
    rw [gm_pn (fun q => hax q.1)]
    exact chn.snoc t _ h.2 hd'.2 (fun q => hb (List.mem_cons_of_mem _ q)) hn
theorem chn.cut {G : gH} {f a x : Nat} {t : List Nat} : ∀ (l : List Nat) (v : Value), chn G f v (l ++ x :: a :: t) → (l ++ x :: a :: t).Nodup → chn (gput G x f (gm G a f)) f v (l ++ x :: t)
  | [], v, h, hd => by
    refine ⟨h.1, ?_⟩
    rw [gm_pe]
    have hd' := List.nodup_cons.mp hd
    exact chn.congr t _ (fun b hb => gm_pn (fun q => hd'.1 (by rw [← q.1]; exact List.mem_cons_of_mem _ hb))) h.2.2
  | c :: l, v, h, hd => by
    have hd' := List.nodup_cons.mp hd
    have hcx : c ≠ x := fun q => hd'.1 (by simp [q])
    refine ⟨h.1, ?_⟩
    rw [gm_pn (fun q => hcx q.1)]
    exact chn.cut l _ h.2 hd'.2
theorem chn.at {G : gH} {f a : Nat} {t : List Nat} : ∀ (l : List Nat) (v : Value), chn G f v (l ++ a :: t) → chn G f (gm G a f) t
  | [], _, h => h.2
  | _ :: l, _, h => chn.at l _ h.2
/-- the head of a list as a value -/
def hdv : List Nat → Value
  | [] => .null
  | a :: _ => .ref a
theorem chn.hd {G : gH} {f : Nat} {v : Value} {l : List Nat} (h : chn G f v l) : v = hdv l := by
  cases l with
  | nil => exact h
  | cons a t => exact h.1
theorem chn.of {G : gH} {f : Nat} {v : Value} {l : List Nat} (h : chn G f v l) : chn G f (hdv l) l := by rw [← h.hd]; exact h
theorem hdv_ok {l : List Nat} : rfOK (hdv l) := by cases l <;> exact trivial
/-- links between neighbours alone -/
def lnk (G : gH) (f : Nat) : List Nat → Prop
  | [] => True
  | a :: t => (∀ b, t.head? = some b → gm G a f = .ref b) ∧ lnk G f t
theorem lnk.congr {G G' : gH} {f : Nat} : ∀ (l : List Nat), (∀ a ∈ l, gm G' a f = gm G a f) → lnk G f l → lnk G' f l
  | [], _, _ => trivial
  | a :: t, hc, ⟨h1, h2⟩ => ⟨fun b hb => by rw [hc a List.mem_cons_self]; exact h1 b hb, lnk.congr t (fun b hb => hc b (List.mem_cons_of_mem _ hb)) h2⟩
theorem lnk.snoc {G : gH} {f b x : Nat} : ∀ (l : List Nat), lnk G f (l ++ [x]) → (l ++ [x]).Nodup → lnk (gput G x f (.ref b)) f (l ++ [x] ++ [b])
  | [], h, _ => ⟨fun c hc => by cases hc; rw [gm_pe], fun c hc => (by cases hc), trivial⟩
  | a :: t, h, hd => by
    have hd' := List.nodup_cons.mp hd
    have hax : a ≠ x := fun q => hd'.1 (by simp [q])
    refine ⟨fun c hc => ?_, lnk.snoc t h.2 hd'.2⟩
    rw [gm_pn (fun q => hax q.1)]
    refine h.1 c ?_
    cases t with
    | nil => exact hc
    | cons y t => exact hc
theorem lnk.end {G : gH} {f x : Nat} : ∀ (l : List Nat), lnk G f (l ++ [x]) → (l ++ [x]).Nodup → chn (gput G x f .null) f (hdv (l ++ [x])) (l ++ [x])
  | [], h, _ => ⟨rfl, by show gm _ x f = .null; rw [gm_pe]⟩
  | a :: t, h, hd => by
    have hd' := List.nodup_cons.mp hd
    have hax : a ≠ x := fun q => hd'.1 (by simp [q])
    have ih := lnk.end t h.2 hd'.2
    refine ⟨rfl, ?_⟩
    rw [gm_pn (fun q => hax q.1)]
    cases t with
    | nil => rw [h.1 x rfl]; exact ih
    | cons y t => rw [h.1 y rfl]; exact ih
theorem chn.lnk {G : gH} {f : Nat} : ∀ (l : List Nat) (v : Value), chn G f v l → lnk G f l
  | [], _, _ => trivial
  | a :: t, v, h => ⟨fun b hb => by
      cases t with
      | nil => cases hb
      | cons y t => cases hb; exact h.2.1, chn.lnk t _ h.2⟩
/-- entries of a map: key, node, value -/
abbrev lE : Type := Int × Nat × Value
def ek (e : lE) : Int := e.1
def ea (e : lE) : Nat := e.2.1
def ev (e : lE) : Value := e.2.2
/-- the entry of a key -/
def lkp (E : List lE) (z : Int) : Option lE := E.find? (fun e => decide (ek e = z))
/-- the entries of a bucket -/
def bkt (E : List lE) (cap b : Int) : List lE := E.filter (fun e => decide (ek e % cap = b))
abbrev isCell (G : gH) (a : Nat) (z : Int) : Prop := a < gs G ∧ gc G a = 8 ∧ gm G a 0 = .int (iI z) ∧ inC z
def nodOK (G : gH) (S : Nat → Prop) (e : lE) : Prop := S (ea e) ∧ ea e < gs G ∧ gc G (ea e) = 24 ∧ gm G (ea e) 0 = .int (iI (ek e)) ∧ (∃ kc, gm G (ea e) 1 = .ref kc ∧ isCell G kc (ek e)) ∧ gm G (ea e) 2 = ev e ∧ rfOK (ev e)
abbrev isCap (c : Int) : Prop := c = 16 ∨ c = 32 ∨ c = 64 ∨ c = 128 ∨ c = 256
def tabOK (G : gH) (S : Nat → Prop) (m : Nat) (c : Int) (E : List lE) : Prop :=
  (c = 0 ∧ E = [] ∧ gm G m 0 = .null ∧ (gm G m 4 = .int (iI 0) ∨ gm G m 4 = .int (iI 16))) ∨
  (isCap c ∧ gm G m 4 = .int (iI (c / 4 * 3)) ∧ (E.length : Int) ≤ c / 4 * 3 ∧ ∃ tab, gm G m 0 = .ref tab ∧ S tab ∧ tab < gs G ∧ gc G tab = 105 ∧ gl G tab = c.toNat ∧ ∀ b : Int, 0 ≤ b → b < c → chn G 3 (gm G tab b.toNat) ((bkt E c b).map ea))
/-- a linked hash map at m: cells of S, capacity c, entries E in their order -/
def LM (G : gH) (S : Nat → Prop) (m : Nat) (c : Int) (E : List lE) : Prop :=
  (S m ∧ m < gs G ∧ gc G m = 13) ∧ gm G m 2 = .int (iI E.length) ∧ (∃ mc, gm G m 3 = .int mc) ∧ gm G m 5 = .float 0x3F400000 ∧
  (gm G m 6 = .null ∨ ∃ ks, gm G m 6 = .ref ks ∧ ks < gs G ∧ gc G ks = 22 ∧ gm G ks 0 = .int (iI 0) ∧ gm G ks 1 = .ref m) ∧
  gm G m 10 = .int (iI 0) ∧ gm G m 11 = .int (iI 0) ∧ (∀ e ∈ E, nodOK G S e) ∧ (E.map ek).Nodup ∧ chn G 5 (gm G m 8) (E.map ea) ∧ chn G 4 (gm G m 9) (E.map ea).reverse ∧ tabOK G S m c E
theorem isCell.keep {G G' : gH} {a : Nat} {z : Int} (h : isCell G a z) (hz : gs G ≤ gs G') (hc : gc G' a = gc G a) (hm : gm G' a = gm G a) : isCell G' a z := ⟨by omega, hc.trans h.2.1, by rw [hm]; exact h.2.2.1, h.2.2.2⟩
theorem isCell.fr {S : Nat → Prop} {G G' : gH} {a : Nat} {z : Int} (h : isCell G a z) (hF : Fr S G G') : isCell G' a z := h.keep hF.1 (hF.c h.1) (hF.z h.1 (Or.inl h.2.1))
theorem nodOK.keep {G G' : gH} {S S' : Nat → Prop} {e : lE} (h : nodOK G S e) (hz : gs G ≤ gs G') (hs : ∀ a, a < gs G → S a → S' a) (hk : ∀ a, a < gs G → (S a ∨ frz (gc G a)) → gc G' a = gc G a ∧ gl G' a = gl G a ∧ gm G' a = gm G a) : nodOK G' S' e := by
  obtain ⟨h1, h2, h3, h4, ⟨kc, h5, h7⟩, h8, h9⟩ := h
  obtain ⟨k1, -, k2⟩ := hk _ h2 (Or.inl h1)
  obtain ⟨k3, -, k4⟩ := hk _ h7.1 (Or.inr (Or.inl h7.2.1))
  exact ⟨hs _ h2 h1, by omega, by rw [k1]; exact h3, by rw [k2]; exact h4, ⟨kc, by rw [k2]; exact h5, h7.keep hz k3 k4⟩, by rw [k2]; exact h8, h9⟩
/-- a map stays as it is, if its cells and all keys do -/
theorem LM.keep {G G' : gH} {S S' : Nat → Prop} {m : Nat} {c : Int} {E : List lE} (h : LM G S m c E) (hz : gs G ≤ gs G') (hs : ∀ a, a < gs G → S a → S' a) (hk : ∀ a, a < gs G → (S a ∨ frz (gc G a)) → gc G' a = gc G a ∧ gl G' a = gl G a ∧ gm G' a = gm G a) : LM G' S' m c E := by
  obtain ⟨⟨a1, a2, a3⟩, a4, a5, a6, a7, a8, a9, b1, b2, b3, b4, b5⟩ := h
  obtain ⟨k1, -, k2⟩ := hk m a2 (Or.inl a1)
  have hnod : ∀ a ∈ E.map ea, gm G' a = gm G a := fun a ha => by
    obtain ⟨e, he, rfl⟩ := List.mem_map.mp ha
    exact (hk _ (b1 e he).2.1 (Or.inl (b1 e he).1)).2.2
  refine ⟨⟨hs _ a2 a1, by omega, by rw [k1]; exact a3⟩, by rw [k2]; exact a4, by rw [k2]; exact a5, by rw [k2]; exact a6, ?_, by rw [k2]; exact a8, by rw [k2]; exact a9, fun e he => (b1 e he).keep hz hs hk, b2, ?_, ?_, ?_⟩
  · rw [k2]
    refine a7.imp id ?_
    rintro ⟨ks, q1, q3, q4, q5, q6⟩
    obtain ⟨k3, -, k4⟩ := hk ks q3 (Or.inr (Or.inr q4))
    exact ⟨ks, q1, Nat.lt_of_lt_of_le q3 hz, by rw [k3]; exact q4, by rw [k4]; exact q5, by rw [k4]; exact q6⟩
  · rw [k2]; exact chn.congr _ _ (fun a ha => by rw [hnod a ha]) b3
  · rw [k2]; exact chn.congr _ _ (fun a ha => by rw [hnod a (List.mem_reverse.mp ha)]) b4
  · unfold tabOK
    rw [k2]
    refine b5.imp id ?_
    rintro ⟨q1, q2, q3, tab, q4, q5, q6, q7, q8, q9⟩
    obtain ⟨k3, k5, k4⟩ := hk tab q6 (Or.inl q5)
    refine ⟨q1, q2, q3, tab, q4, hs _ q6 q5, Nat.lt_of_lt_of_le q6 hz, by rw [k3]; exact q7, by rw [k5]; exact q8, fun b b0 b1' => ?_⟩
    rw [k4]
    refine chn.congr _ _ (fun a ha => ?_) (q9 b b0 b1')
    obtain ⟨e, he, rfl⟩ := List.mem_map.mp ha
    have he' : e ∈ E := (List.mem_filter.mp he).1
    rw [hnod _ (List.mem_map.mpr ⟨e, he', rfl⟩)]
theorem LM.fr {G G' : gH} {S T S' : Nat → Prop} {m : Nat} {c : Int} {E : List lE} (h : LM G S m c E) (hF : Fr T G G') (hd : ∀ a, a < gs G → S a → ¬ T a) (hs : ∀ a, a < gs G → S a → S' a) : LM G' S' m c E :=
  h.keep hF.1 hs (fun a ha q => ⟨hF.c ha, hF.l ha, q.elim (fun q => hF.m ha (hd a ha q)) (fun q => hF.z ha q)⟩)
theorem LM.mono {G : gH} {S S' : Nat → Prop} {m : Nat} {c : Int} {E : List lE} (h : LM G S m c E) (hs : ∀ a, a < gs G → S a → S' a) : LM G S' m c E := h.keep (Nat.le_refl _) hs (fun _ _ _ => ⟨rfl, rfl, rfl⟩)
/-- what of S is there already; and what came since -/
abbrev cl (S : Nat → Prop) (G : gH) : Nat → Prop := fun a => S a ∧ a < gs G
abbrev xt (S : Nat → Prop) (G G' : gH) : Nat → Prop := fun a => (S a ∧ a < gs G) ∨ (gs G ≤ a ∧ a < gs G')
theorem LM.cl {G : gH} {S : Nat → Prop} {m : Nat} {c : Int} {E : List lE} (h : LM G S m c E) : LM G (cl S G) m c E := h.mono (fun _ ha q => ⟨q, ha⟩)
