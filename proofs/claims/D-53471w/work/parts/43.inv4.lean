/-! WHAT IS ALWAYS TRUE, 4: hear, claims, dig -/
set_option maxRecDepth 100000
set_option maxHeartbeats 4000000
theorem ROK.hear {K : Int} {N : Int → Int} (h : ROK K N) (hK : K + 1 ≤ 100000000) : ROK (K + 1) (hearN N) := by
  have h6 := h.1.2.1.2
  have hh := hF_b N 0 (N 6).toNat 0
  have hz : hF N 0 0 (N 6).toNat = heardN N 0 := rfl
  rw [hz] at hh
  unfold hearN
  generalize heardN N 0 = c at hh
  by_cases hc : c < 0
  · rw [if_pos hc]; exact h.k (by omega) hK
  rw [if_neg hc]
  have hcb : 0 ≤ c ∧ c < 12 := by omega
  obtain ⟨q0, q1, q2, q3, q4, q5, q6, q7⟩ := h.1.2.2.2.2.2.2 c hcb.1 hcb.2
  have c0 : 0 ≤ clA N c 0 ∧ clA N c 0 ≤ 5 := q0
  have c1 : 0 ≤ clA N c 1 ∧ clA N c 1 ≤ 5 := q1
  have c4 : 0 ≤ clA N c 4 ∧ clA N c 4 ≤ 10000 := q4
  have lb := loss_b h.1 hcb.1 hcb.2
  have np := (h.1.2.2.2.2.2.1 (clA N c 1) c1.1 (by omega)).2.2.2.2.1
  have hp : (0 ≤ hPay N c ∧ hPay N c ≤ N (169 + 9 * clA N c 1 + 4)) ∧ clA N c 4 + hPay N c ≤ 10000 := by
    unfold hPay
    split
    · omega
    · split <;> omega
  have o1 : ROK K (paysN N (clA N c 1) (clA N c 0) (hPay N c)) := h.pays (by omega) (by omega) hp.1
  have o2 : ROK K (hN2 N c) := o1.clm (by omega) (okIx.q hcb.1 (by decide) (by decide) (show 0 ≤ clA N c 4 + hPay N c ∧ clA N c 4 + hPay N c ≤ 10000 by omega))
  have o3 : ROK K (hN3 N c) := by
    unfold hN3
    split
    · have l := o2.los (m := clA N c 1) (by omega)
      exact l.comb (l.1.2.2.2.2.2.2 c hcb.1 hcb.2).1
    · exact o2
  unfold hearC
  exact ROK.act (o3.clm (by omega) (okIx.q hcb.1 (by decide) (by decide) (show (0 : Int) ≤ 2 ∧ (2 : Int) ≤ 2 by decide))) hK
theorem ROK.n6 {K : Int} {N : Int → Int} (h : ROK K N) {v : Int} (hv : 0 ≤ v ∧ v ≤ 12) : ROK K (uN N 6 v) := by
  refine h.off (h.1.u (okIx.s (by decide) (by decide) hv)) ?_ ?_ ?_
  · unfold uN; rw [if_neg (by omega)]
  · intro m w m0 m1 hw; unfold uN; rw [if_neg (by omega)]
  · intro c hc n n0 n1 e; unfold inC at hc; unfold uN; rw [if_neg (by omega)]; exact e
theorem ROK.cla {K : Int} {N : Int → Int} (h : ROK K N) (h6 : N 6 ≤ 11) {a b p : Int} (ha : 0 ≤ a ∧ a < 6) (hb : 0 ≤ b ∧ b < 6) (hp : 0 ≤ p ∧ p ≤ 10000) : ROK K (claN N a b p) := by
  have b6 := h.1.2.1.2
  have b4 := h.1.2.2.2.1
  have wb := wireC_b N b
  have vb := viaC_b N b
  have sh : ∀ w, 223 + 13 * N 6 + w = 223 + 13 * N 6 + w := fun _ => rfl
  have o1 : ROK K (claA N a b p) := by
    unfold claA
    dsimp only
    refine ROK.clm (ROK.clm (ROK.clm (ROK.clm (ROK.clm (ROK.clm (ROK.clm h (by omega) ?_) (by omega) ?_) (by omega) ?_) (by omega) ?_) (by omega) ?_) (by omega) ?_) (by omega) ?_
    · have := okIx.q (K := K) (c := N 6) (w := 0) (v := b) b6.1 (by decide) (by decide) (show 0 ≤ b ∧ b ≤ 5 by omega)
      rw [Int.add_zero] at this; exact this
    · exact okIx.q b6.1 (by decide) (by decide) (show 0 ≤ a ∧ a ≤ 5 by omega)
    · exact okIx.q b6.1 (by decide) (by decide) (show 0 ≤ wireC N b ∧ wireC N b ≤ 162 by omega)
    · exact okIx.q b6.1 (by decide) (by decide) (show 0 ≤ viaC N b ∧ viaC N b ≤ 81 by omega)
    · exact okIx.q b6.1 (by decide) (by decide) (show 0 ≤ p ∧ p ≤ 10000 by omega)
    · exact okIx.q b6.1 (by decide) (by decide) (show (0 : Int) ≤ 0 ∧ (0 : Int) ≤ 2 by decide)
    · exact okIx.q b6.1 (by decide) (by decide) (show 0 ≤ N 4 ∧ N 4 ≤ K by omega)
  have o2 : ROK K (claR N (claA N a b p) b (223 + 13 * N 6) 162) := by
    refine o1.off (RowB.of h.1.1 (fun j j0 j1 => ?_)) ?_ ?_ ?_
    · unfold claR
      split
      · next q =>
        have m := mskP_b (N := N) (b := b) (k := j - (223 + 13 * N 6) - 7) (c := 162)
        have e : j = 223 + 13 * N 6 + (j - (223 + 13 * N 6)) := by omega
        have key : okIx K (223 + 13 * N 6 + (j - (223 + 13 * N 6))) (mskP N b (j - (223 + 13 * N 6) - 7) 162) := by
          generalize mskP N b (j - (223 + 13 * N 6) - 7) 162 = v at m
          have : j - (223 + 13 * N 6) = 7 ∨ j - (223 + 13 * N 6) = 8 ∨ j - (223 + 13 * N 6) = 9 ∨ j - (223 + 13 * N 6) = 10 ∨ j - (223 + 13 * N 6) = 11 ∨ j - (223 + 13 * N 6) = 12 := by omega
          have mm : 0 ≤ v ∧ v ≤ 134217727 := by omega
          rcases this with z | z | z | z | z | z <;> rw [z]
          · exact okIx.q b6.1 (by decide) (by decide) mm
          · exact okIx.q b6.1 (by decide) (by decide) mm
          · exact okIx.q b6.1 (by decide) (by decide) mm
          · exact okIx.q b6.1 (by decide) (by decide) mm
          · exact okIx.q b6.1 (by decide) (by decide) mm
          · exact okIx.q b6.1 (by decide) (by decide) mm
        rw [← e] at key
        exact key
      · exact o1.1.ix j j0 j1
    · unfold claR; rw [if_neg (by omega)]
    · intro m w m0 m1 hw; unfold claR; rw [if_neg (by omega)]
    · intro c hc n n0 n1 e; unfold inC at hc; unfold claR; rw [if_neg (by omega)]; exact e
  unfold claN
  exact o2.n6 (by omega)
