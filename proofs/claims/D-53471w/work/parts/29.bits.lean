/-! BITS of ints -/
set_option maxRecDepth 100000
set_option maxHeartbeats 4000000
theorem of_or (a b : Nat) : Int32.ofNat a ||| Int32.ofNat b = Int32.ofNat (a ||| b) := by
  apply Int32.toBitVec_inj.mp
  show BitVec.ofNat 32 a ||| BitVec.ofNat 32 b = BitVec.ofNat 32 (a ||| b)
  exact (BitVec.ofNat_or).symm
theorem of_and (a b : Nat) : Int32.ofNat a &&& Int32.ofNat b = Int32.ofNat (a &&& b) := by
  apply Int32.toBitVec_inj.mp
  show BitVec.ofNat 32 a &&& BitVec.ofNat 32 b = BitVec.ofNat 32 (a &&& b)
  exact (BitVec.ofNat_and).symm
theorem sh_1 : ∀ n : Fin 31, Int32.ofNat 1 <<< Int32.ofNat n.val = Int32.ofNat (2 ^ n.val) := by decide +kernel
theorem smod_32 : ∀ n : Fin 32, ((Int32.ofNat n.val).toBitVec.smod 32).toNat = n.val := by decide +kernel
theorem pow_lt (n : Nat) (h : n < 31) : 2 ^ n ≤ 1073741824 := by
  have : 2 ^ n ≤ 2 ^ 30 := Nat.pow_le_pow_right (by decide) (by omega)
  exact this
theorem iI_shl {n : Int} (hn : 0 ≤ n ∧ n < 31) : iI 1 <<< iI n = iI (2 ^ n.toNat) := by
  have := sh_1 ⟨n.toNat, by omega⟩
  simp only [iI_of] at this
  rw [show ((n.toNat : Nat) : Int) = n from by omega, Int.natCast_pow] at this
  exact this
theorem iI_orN {a n : Int} (hn : 0 ≤ n ∧ n < 31) (ha : 0 ≤ a ∧ a < 2 ^ n.toNat) : iI a ||| iI (2 ^ n.toNat) = iI (a + 2 ^ n.toNat) := by
  have e2 : ((2 ^ n.toNat : Nat) : Int) = 2 ^ n.toNat := by rw [Int.natCast_pow]; rfl
  have h := of_or a.toNat (2 ^ n.toNat)
  have h2 := Nat.two_pow_add_eq_or_of_lt (i := n.toNat) (b := a.toNat) (by omega) 1
  rw [Nat.mul_one, Nat.or_comm] at h2
  rw [← h2] at h
  simp only [iI_of] at h
  rw [show ((a.toNat : Nat) : Int) = a from by omega, e2, show ((2 ^ n.toNat + a.toNat : Nat) : Int) = a + 2 ^ n.toNat from by omega] at h
  exact h
theorem iI_shr {a n : Int} (hn : 0 ≤ n ∧ n < 31) (ha : 0 ≤ a ∧ a < 2147483648) : iI a >>> iI n = iI (a / 2 ^ n.toNat) := by
  have e2 : ((2 ^ n.toNat : Nat) : Int) = 2 ^ n.toNat := by rw [Int.natCast_pow]; rfl
  have h := pk_shrN (n := a.toNat) (by omega) (iI n) n.toNat (by
    have := smod_32 ⟨n.toNat, by omega⟩
    simp only [iI_of] at this
    rw [show ((n.toNat : Nat) : Int) = n from by omega] at this
    exact this)
  show iI a >>> iI n = _
  have e1 : nI a.toNat = iI a := by
    show Int32.ofNat _ = _
    rw [iI_of, show ((a.toNat : Nat) : Int) = a from by omega]
  rw [e1] at h
  rw [h]
  show Int32.ofNat _ = _
  rw [iI_of, show ((a.toNat / 2 ^ n.toNat : Nat) : Int) = a / 2 ^ n.toNat from by rw [Int.natCast_ediv, e2, show ((a.toNat : Nat) : Int) = a from by omega]]
theorem iI_and1 {a : Int} (ha : 0 ≤ a) : iI a &&& iI 1 = iI (a % 2) := by
  have h := of_and a.toNat 1
  rw [Nat.and_one_is_mod] at h
  simp only [iI_of] at h
  rw [show ((a.toNat : Nat) : Int) = a from by omega, show ((a.toNat % 2 : Nat) : Int) = a % 2 from by omega] at h
  exact h
/-- the k-th bit of a set -/
theorem vicS_bit {f : Int → Int} : ∀ (k n : Nat), n < k → vicS f k / 2 ^ n % 2 = if 0 < f n then 1 else 0
  | 0, n, h => absurd h (by omega)
  | k + 1, n, h => by
    show (vicS f k + (if 0 < f k then 2 ^ k else 0)) / 2 ^ n % 2 = _
    have hb := vicS_b (f := f) k
    by_cases e : n = k
    · subst e
      have p : (0 : Int) < 2 ^ n := Int.pow_pos (by decide)
      split
      · rw [Int.add_ediv_of_dvd_right ⟨1, by omega⟩, Int.ediv_self (by omega), Int.ediv_eq_zero_of_lt hb.1 hb.2]; rfl
      · rw [Int.add_zero, Int.ediv_eq_zero_of_lt hb.1 hb.2]; rfl
    · have ih := vicS_bit (f := f) k n (by omega)
      have p : (2 : Int) ^ n ≠ 0 := Int.ne_of_gt (Int.pow_pos (by decide))
      split
      · have e2 : (2 : Int) ^ k = 2 ^ n * (2 * 2 ^ (k - n - 1)) := by
          rw [show k = n + (1 + (k - n - 1)) from by omega, Int.pow_add, Int.pow_add]
          congr 2
          congr 1
          omega
        rw [e2, Int.add_mul_ediv_left _ _ p]
        omega
      · rw [Int.add_zero]; exact ih
