set_option maxRecDepth 100000
theorem xI_bv (a : Nat) : (nI a).toBitVec = BitVec.ofNat 32 a := rfl
theorem xI_nat {a : Nat} (h : a < 2 ^ 32) : (nI a).toBitVec.toNat = a := by rw [xI_bv, BitVec.toNat_ofNat]; exact Nat.mod_eq_of_lt h
theorem xI_mul (a b : Nat) : nI a * nI b = nI (a * b) := (Int32.ofNat_mul a b).symm
theorem xI_sub {a b : Nat} (h : b ≤ a) : nI a - nI b = nI (a - b) := by
  have e : nI a = nI (a - b) + nI b := by rw [nI_add]; congr 1; omega
  rw [e]
  exact Int32.toBitVec_inj.mp (by simp)
theorem xI_div {a b : Nat} (ha : a < 2 ^ 31) (hb : b < 2 ^ 31) : nI a / nI b = nI (a / b) := by
  apply Int32.toInt_inj.mp
  rw [Int32.toInt_div, nI_toInt ha, nI_toInt hb, nI_toInt (Nat.lt_of_le_of_lt (Nat.div_le_self a b) ha)]
  have h1 : ((a : Int).tdiv (b : Int)) = ((a / b : Nat) : Int) := by
    rw [Int.tdiv_eq_ediv_of_nonneg (by omega)]
    exact (Int.natCast_ediv a b).symm
  rw [h1]
  have h2 : a / b ≤ a := Nat.div_le_self a b
  generalize a / b = c at h2 ⊢
  exact Int.bmod_eq_of_le (by omega) (by omega)
theorem xI_rem {a b : Nat} (ha : a < 2 ^ 31) (hb : b < 2 ^ 31) : nI a - nI a / nI b * nI b = nI (a % b) := by
  rw [xI_div ha hb, xI_mul, xI_sub (Nat.div_mul_le_self a b)]
  congr 1
  have := Nat.div_add_mod a b
  rw [Nat.mul_comm] at this
  omega
theorem xI_and (a b : Nat) : nI a &&& nI b = nI (a &&& b) := by
  apply Int32.toBitVec_inj.mp
  rw [Int32.toBitVec_and, xI_bv, xI_bv, xI_bv, BitVec.ofNat_and]
theorem xI_xor (a b : Nat) : nI a ^^^ nI b = nI (a ^^^ b) := by
  apply Int32.toBitVec_inj.mp
  rw [Int32.toBitVec_xor, xI_bv, xI_bv, xI_bv, BitVec.ofNat_xor]
theorem xI_or (a b : Nat) : nI a ||| nI b = nI (a ||| b) := by
  apply Int32.toBitVec_inj.mp
  rw [Int32.toBitVec_or, xI_bv, xI_bv, xI_bv, BitVec.ofNat_or]
theorem xI_cnt : ∀ p, p < 32 → ((nI p &&& 31).toBitVec.smod 32).toNat = p := by decide +kernel
theorem xI_shr {a p : Nat} (ha : a < 2 ^ 31) (hp : p < 32) : nI a >>> (nI p &&& 31) = nI (a / 2 ^ p) := by
  apply Int32.toBitVec_inj.mp
  show BitVec.sshiftRight (nI a).toBitVec ((nI p &&& 31).toBitVec.smod 32).toNat = _
  have h1 : (nI a).toBitVec.msb = false := by
    rw [BitVec.msb_eq_decide, xI_nat (by omega)]
    simp; omega
  rw [BitVec.sshiftRight_eq_of_msb_false h1]
  apply BitVec.eq_of_toNat_eq
  rw [BitVec.toNat_ushiftRight, xI_nat (by omega), xI_cnt p hp, Nat.shiftRight_eq_div_pow, xI_nat (Nat.lt_of_le_of_lt (Nat.div_le_self _ _) (by omega))]
theorem xI_bit {a p : Nat} (ha : a < 2 ^ 31) (hp : p < 32) : (nI a >>> (nI p &&& 31)) &&& 1 = nI (a / 2 ^ p % 2) := by
  rw [xI_shr ha hp]
  show nI _ &&& nI 1 = _
  rw [xI_and, Nat.and_one_is_mod]
theorem xI_pow : ∀ p, p < 31 → (1 : Int32) <<< (nI p &&& 31) = nI (2 ^ p) := by decide +kernel
theorem xI_dbl {a : Nat} (ha : a < 2 ^ 30) : nI a <<< ((1 : Int32) &&& 31) = nI (2 * a) := by
  apply Int32.toBitVec_inj.mp
  show (nI a).toBitVec <<< (1#32 : BitVec 32) = _
  apply BitVec.eq_of_toNat_eq
  rw [BitVec.shiftLeft_eq', BitVec.toNat_shiftLeft, xI_nat (by omega), xI_nat (by omega)]
  show a <<< 1 % 2 ^ 32 = _
  rw [Nat.shiftLeft_eq]
  omega
theorem xI_eq {a b : Nat} (ha : a < 2 ^ 31) (hb : b < 2 ^ 31) : (nI a = nI b) = (a = b) := propext (nI_eq ha hb)
theorem xI_le {a b : Nat} (ha : a < 2 ^ 31) (hb : b < 2 ^ 31) : (nI a ≤ nI b) = (a ≤ b) := propext (nI_leI ha hb)
theorem xI_lt {a b : Nat} (ha : a < 2 ^ 31) (hb : b < 2 ^ 31) : (nI a < nI b) = (a < b) := propext (nI_ltI ha hb)
theorem xI_in {i n : Nat} (h : i < n) (hn : n < 2 ^ 31) : ok_in (nI i) n = true := by
  unfold ok_in
  rw [nI_clamp (by omega)]
  simp [nI_pos' (show i < 2 ^ 31 by omega), h]
theorem xI_cl {i : Nat} (h : i < 2 ^ 31) : (nI i).toNatClampNeg = i := nI_clamp h
theorem xI_0 : (0 : Int32) = nI 0 := rfl
theorem xI_1 : (1 : Int32) = nI 1 := rfl
/-- a number or none: none is -1 -/
theorem xI_pred {z : Nat} (h : 0 < z) : nI z - 1 = nI (z - 1) := xI_sub (b := 1) h
theorem xI_m1 {z : Nat} (hz : z < 2 ^ 31) : (nI z - 1 = (-1 : Int32)) = (z = 0) := by
  apply propext
  constructor
  · intro h
    rcases Nat.eq_zero_or_pos z with h0 | h0
    · exact h0
    · rw [xI_pred h0] at h
      have h1 : (nI (z - 1)).toInt = (-1 : Int32).toInt := congrArg Int32.toInt h
      rw [nI_toInt (by omega)] at h1
      have h2 : (-1 : Int32).toInt = -1 := by decide
      omega
  · intro h
    subst h
    decide
theorem xI_mem (n : Nat) : ∃ a, a < 2 ^ 32 ∧ nI n = nI a := ⟨n % 2 ^ 32, Nat.mod_lt _ (by decide), by apply Int32.toBitVec_inj.mp; rw [xI_bv, xI_bv]; apply BitVec.eq_of_toNat_eq; rw [BitVec.toNat_ofNat, BitVec.toNat_ofNat, Nat.mod_mod]⟩
theorem xI_l {n : Nat} (h : n < 2 ^ 31) : (nI n).toInt64 = lN n := nI_l h
theorem xL_i {n : Nat} : (lN n).toInt32 = nI n := lN_i n
