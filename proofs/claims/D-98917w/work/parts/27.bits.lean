/-! ===== sets of bits ===== -/
theorem bv_zi {n : Nat} (h : n < 2147483648) : (zi n).toBitVec = BitVec.ofNat 32 n := by
  unfold zi
  rw [Int32.toBitVec_ofInt, BitVec.ofInt_natCast]
theorem zi_bv {x : Int32} {n : Nat} (h : n < 2147483648) (e : x.toBitVec.toNat = n) : x = zi n := by
  refine Int32.toBitVec_inj.mp (BitVec.eq_of_toNat_eq ?_)
  rw [bv_zi h, e, BitVec.toNat_ofNat, Nat.mod_eq_of_lt (by omega)]
theorem zi_or {m n : Nat} (hm : m < 2147483648) (hn : n < 2147483648) : zi m ||| zi n = zi ((m ||| n : Nat) : Int) := by
  have hb : m ||| n < 2 ^ 31 := Nat.or_lt_two_pow hm hn
  refine zi_bv (by omega) ?_
  rw [Int32.toBitVec_or, bv_zi hm, bv_zi hn, BitVec.toNat_or, BitVec.toNat_ofNat, BitVec.toNat_ofNat, Nat.mod_eq_of_lt (by omega), Nat.mod_eq_of_lt (by omega)]
theorem zi_and {m n : Nat} (hm : m < 2147483648) (hn : n < 2147483648) : zi m &&& zi n = zi ((m &&& n : Nat) : Int) := by
  have hb : m &&& n < 2 ^ 31 := Nat.and_lt_two_pow m hn
  refine zi_bv (by omega) ?_
  rw [Int32.toBitVec_and, bv_zi hm, bv_zi hn, BitVec.toNat_and, BitVec.toNat_ofNat, BitVec.toNat_ofNat, Nat.mod_eq_of_lt (by omega), Nat.mod_eq_of_lt (by omega)]
theorem sh_k {k : Nat} (hk : k < 32) : (zi k &&& 31).toBitVec.smod 32 = BitVec.ofNat 32 k := by
  have : ∀ k : Fin 32, (zi (k.val : Nat) &&& 31).toBitVec.smod 32 = BitVec.ofNat 32 k.val := by decide +kernel
  exact this ⟨k, hk⟩
theorem sh_l {k : Nat} (hk : k < 64) : ((zi k).toInt64 &&& 63).toBitVec.smod 64 = BitVec.ofNat 64 k := by
  have : ∀ k : Fin 64, ((zi (k.val : Nat)).toInt64 &&& 63).toBitVec.smod 64 = BitVec.ofNat 64 k.val := by decide +kernel
  exact this ⟨k, hk⟩
theorem zi_shl {m k : Nat} (hk : k < 32) (hm : m <<< k < 2147483648) : zi m <<< (zi k &&& 31) = zi ((m <<< k : Nat) : Int) := by
  have hm' : m < 2147483648 := by
    rw [Nat.shiftLeft_eq] at hm
    have := Nat.le_mul_of_pos_right m (Nat.two_pow_pos k)
    omega
  refine zi_bv hm ?_
  rw [Int32.toBitVec_shiftLeft, sh_k hk, bv_zi hm', BitVec.shiftLeft_eq', BitVec.toNat_shiftLeft, BitVec.toNat_ofNat, BitVec.toNat_ofNat, Nat.mod_eq_of_lt (show k < 2 ^ 32 by omega), Nat.mod_eq_of_lt (show m < 2 ^ 32 by omega), Nat.mod_eq_of_lt (by omega)]
theorem zi_shr {m k : Nat} (hk : k < 32) (hm : m < 2147483648) : zi m >>> (zi k &&& 31) = zi ((m >>> k : Nat) : Int) := by
  have hb : m >>> k ≤ m := by rw [Nat.shiftRight_eq_div_pow]; exact Nat.div_le_self ..
  refine zi_bv (by omega) ?_
  rw [Int32.toBitVec_shiftRight, sh_k hk, bv_zi hm, BitVec.sshiftRight_eq', BitVec.sshiftRight_eq_of_msb_false, BitVec.toNat_ushiftRight, BitVec.toNat_ofNat, BitVec.toNat_ofNat, Nat.mod_eq_of_lt (show k < 2 ^ 32 by omega), Nat.mod_eq_of_lt (show m < 2 ^ 32 by omega)]
  rw [BitVec.msb_eq_false_iff_two_mul_lt, BitVec.toNat_ofNat]
  omega
theorem bvl {n : Nat} (h : n < 9223372036854775808) : (zl n).toBitVec = BitVec.ofNat 64 n := by
  unfold zl
  rw [Int64.toBitVec_ofInt, BitVec.ofInt_natCast]
theorem zl_bv {x : Int64} {n : Nat} (h : n < 9223372036854775808) (e : x.toBitVec.toNat = n) : x = zl n := by
  refine Int64.toBitVec_inj.mp (BitVec.eq_of_toNat_eq ?_)
  rw [bvl h, e, BitVec.toNat_ofNat, Nat.mod_eq_of_lt (by omega)]
theorem zl_and {m n : Nat} (hm : m < 9223372036854775808) (hn : n < 9223372036854775808) : zl m &&& zl n = zl ((m &&& n : Nat) : Int) := by
  have hb : m &&& n < 2 ^ 63 := Nat.and_lt_two_pow m hn
  refine zl_bv (by omega) ?_
  rw [Int64.toBitVec_and, bvl hm, bvl hn, BitVec.toNat_and, BitVec.toNat_ofNat, BitVec.toNat_ofNat, Nat.mod_eq_of_lt (by omega), Nat.mod_eq_of_lt (by omega)]
theorem zl_shr {m k : Nat} (hk : k < 64) (hm : m < 9223372036854775808) : zl m >>> ((zi k).toInt64 &&& 63) = zl ((m >>> k : Nat) : Int) := by
  have hb : m >>> k ≤ m := by rw [Nat.shiftRight_eq_div_pow]; exact Nat.div_le_self ..
  refine zl_bv (by omega) ?_
  rw [Int64.toBitVec_shiftRight, sh_l hk, bvl hm, BitVec.sshiftRight_eq', BitVec.sshiftRight_eq_of_msb_false, BitVec.toNat_ushiftRight, BitVec.toNat_ofNat, BitVec.toNat_ofNat, Nat.mod_eq_of_lt (show k < 2 ^ 64 by omega), Nat.mod_eq_of_lt (show m < 2 ^ 64 by omega)]
  rw [BitVec.msb_eq_false_iff_two_mul_lt, BitVec.toNat_ofNat]
  omega
theorem tb_and {m k : Nat} : ((m >>> k &&& 1 : Nat) : Int) = 1 ↔ m.testBit k = true := by
  rw [Nat.and_one_is_mod, Nat.shiftRight_eq_div_pow, Nat.testBit_eq_decide_div_mod_eq, decide_eq_true_iff]
  omega
theorem sl1 {k : Nat} : 1 <<< k = 2 ^ k := by rw [Nat.shiftLeft_eq, Nat.one_mul]
theorem zi_1shl {k : Nat} (hk : k < 31) : zi 1 <<< (zi k &&& 31) = zi ((2 ^ k : Nat) : Int) := by
  have h := Nat.pow_lt_pow_right (show 1 < 2 by decide) hk
  have := zi_shl (m := 1) (show k < 32 by omega) (by rw [sl1]; omega)
  rw [sl1] at this
  exact this
/-- a bit set -/
def sb (m k : Nat) : Nat := m ||| 2 ^ k
theorem sb_lt {m k : Nat} (hm : m < 512) (hk : k < 9) : sb m k < 512 := Nat.or_lt_two_pow (n := 9) hm (by exact Nat.pow_lt_pow_right (show 1 < 2 by decide) hk)
theorem sb_lt5 {m k : Nat} (hm : m < 32) (hk : k < 5) : sb m k < 32 := Nat.or_lt_two_pow (n := 5) hm (by exact Nat.pow_lt_pow_right (show 1 < 2 by decide) hk)
theorem sb_t {m k j : Nat} : (sb m k).testBit j = (m.testBit j || decide (k = j)) := by
  unfold sb
  rw [Nat.testBit_or, Nat.testBit_two_pow]
theorem zi_sb {m k : Nat} (hm : m < 2147483648) (hk : k < 31) : zi m ||| zi ((2 ^ k : Nat) : Int) = zi (sb m k : Nat) := by
  have h := Nat.pow_lt_pow_right (show 1 < 2 by decide) hk
  exact zi_or hm (by omega)
theorem sb_has {m k : Nat} (h : m.testBit k = true) : sb m k = m := by
  refine Nat.eq_of_testBit_eq (fun j => ?_)
  rw [sb_t]
  by_cases e : k = j
  · subst e
    simp [h]
  · simp [e]
theorem zl_shr' {m k : Nat} (hk : k < 64) (hm : m < 9223372036854775808) : zl m >>> (zl k &&& 63) = zl ((m >>> k : Nat) : Int) := by
  have := zl_shr hk hm
  rw [zi_l (by omega) (by omega)] at this
  exact this
