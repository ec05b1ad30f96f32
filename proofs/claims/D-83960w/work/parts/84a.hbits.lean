set_option maxRecDepth 100000
/-! THE HOUSE'S TYPES: words of flags, of spans, of pairs -/
/-- kind, equality, ordered, level -/
abbrev Yfl : Type := Nat × Bool × Bool × Nat
def bN (b : Bool) : Nat := if b then 1 else 0
def ylow (k : Nat) (e o : Bool) : Nat := 16 * bN o + 8 * bN e + k
def yfb (b : Yfl) : Nat := 32 * b.2.2.2 + ylow b.1 b.2.1 b.2.2.1
def yfOK (b : Yfl) : Prop := b.1 < 8 ∧ b.2.2.2 ≤ 1048576
section HBits
variable {b c : Yfl} {k l r s m n : Nat} {e o : Bool}
theorem ylow_lt (hk : k < 8) : ylow k e o < 32 := by
  have h1 : bN e ≤ 1 := by cases e <;> decide
  have h2 : bN o ≤ 1 := by cases o <;> decide
  unfold ylow; omega
theorem or_low (hr : r < 32) (hs : s < 32) : (32 * l + r) ||| s = 32 * l + (r ||| s) := by
  have e : ∀ q, q < 32 → 32 * l + q = l <<< 5 ||| q := by
    intro q hq
    rw [← Nat.shiftLeft_add_eq_or_of_lt (show q < 2 ^ 5 from hq), Nat.shiftLeft_eq]
    omega
  rw [e r hr, Nat.or_assoc, ← e (r ||| s) (Nat.or_lt_two_pow (n := 5) hr hs)]
theorem and_low (hr : r < 32) (hs : s < 32) : (32 * l + r) &&& s = r &&& s := by
  have e : s = 31 &&& s := by
    rw [Nat.and_comm, show (31 : Nat) = 2 ^ 5 - 1 from rfl, Nat.and_two_pow_sub_one_eq_mod]
    exact (Nat.mod_eq_of_lt hs).symm
  rw [e, ← Nat.and_assoc, show (31 : Nat) = 2 ^ 5 - 1 from rfl, Nat.and_two_pow_sub_one_eq_mod, ← Nat.and_assoc, Nat.and_two_pow_sub_one_eq_mod]
  rw [show (32 * l + r) % 2 ^ 5 = r by omega, show r % 2 ^ 5 = r by omega]
theorem yfb_lt (h : yfOK b) : yfb b < 67108864 := by
  have := ylow_lt (e := b.2.1) (o := b.2.2.1) h.1
  have := h.2
  unfold yfb; omega
theorem low_or : ∀ k, k < 8 → ∀ e o e' o' : Bool, ylow k e o ||| (16 * bN o' + 8 * bN e') = ylow k (e || e') (o || o') := by decide
theorem low_and : ∀ k, k < 8 → ∀ e o : Bool, ylow k e o &&& 7 = k ∧ ylow k e o &&& 8 = 8 * bN e ∧ ylow k e o &&& 16 = 16 * bN o ∧ ylow k e o &&& 31 = ylow k e o := by decide
theorem yfb_7 (h : yfOK b) : zandI (yfb b) 7 = b.1 := by
  have := yfb_lt h
  rw [show (7 : Int) = ((7 : Nat) : Int) from rfl, zand_nat (by omega) (by decide)]
  unfold yfb
  rw [and_low (ylow_lt h.1) (by decide), (low_and _ h.1 _ _).1]
theorem yfb_8 (h : yfOK b) : zandI (yfb b) 8 = ((8 * bN b.2.1 : Nat) : Int) := by
  have := yfb_lt h
  rw [show (8 : Int) = ((8 : Nat) : Int) from rfl, zand_nat (by omega) (by decide)]
  unfold yfb
  rw [and_low (ylow_lt h.1) (by decide), (low_and _ h.1 _ _).2.1]
theorem yfb_16 (h : yfOK b) : zandI (yfb b) 16 = ((16 * bN b.2.2.1 : Nat) : Int) := by
  have := yfb_lt h
  rw [show (16 : Int) = ((16 : Nat) : Int) from rfl, zand_nat (by omega) (by decide)]
  unfold yfb
  rw [and_low (ylow_lt h.1) (by decide), (low_and _ h.1 _ _).2.2.1]
theorem yfb_l (h : yfOK b) : zshrI (yfb b) 5 = (b.2.2.2 : Int) := by
  have := yfb_lt h
  rw [zshr_5 (by omega)]
  unfold yfb
  have := ylow_lt (e := b.2.1) (o := b.2.2.1) h.1
  omega
theorem yfb_or (h : yfOK b) {e' o' : Bool} : zorI (yfb b) ((16 * bN o' + 8 * bN e' : Nat) : Int) = (yfb (b.1, (b.2.1 || e'), (b.2.2.1 || o'), b.2.2.2) : Int) := by
  have := yfb_lt h
  have h2 : 16 * bN o' + 8 * bN e' < 32 := by cases e' <;> cases o' <;> decide
  rw [zor_nat (by omega) (by omega)]
  unfold yfb
  rw [or_low (ylow_lt h.1) h2, low_or _ h.1]
theorem yfb_o8 (h : yfOK b) : zorI (yfb b) 8 = (yfb (b.1, true, b.2.2.1, b.2.2.2) : Int) := by
  have := yfb_or (e' := true) (o' := false) h
  rw [Bool.or_true, Bool.or_false] at this; exact this
theorem yfb_o16 (h : yfOK b) : zorI (yfb b) 16 = (yfb (b.1, b.2.1, true, b.2.2.2) : Int) := by
  have := yfb_or (e' := false) (o' := true) h
  rw [Bool.or_true, Bool.or_false] at this; exact this
theorem yfb_oe (h : yfOK b) (hc : yfOK c) : zorI (yfb b) (zandI (yfb c) 8) = (yfb (b.1, (b.2.1 || c.2.1), b.2.2.1, b.2.2.2) : Int) := by
  rw [yfb_8 hc]
  have := yfb_or (e' := c.2.1) (o' := false) h
  rw [Bool.or_false] at this
  rw [show 8 * bN c.2.1 = 16 * bN false + 8 * bN c.2.1 by simp [bN]]; exact this
theorem yfb_oo (h : yfOK b) (hc : yfOK c) : zorI (yfb b) (zandI (yfb c) 16) = (yfb (b.1, b.2.1, (b.2.2.1 || c.2.2.1), b.2.2.2) : Int) := by
  rw [yfb_16 hc]
  have := yfb_or (e' := false) (o' := c.2.2.1) h
  rw [Bool.or_false] at this
  rw [show 16 * bN c.2.2.1 = 16 * bN c.2.2.1 + 8 * bN false by simp [bN]]; exact this
/-- another level -/
theorem yfb_to (h : yfOK b) (hl : l ≤ 1048576) : zorI (zandI (yfb b) 31) (zshlI (l : Int) 5) = (yfb (b.1, b.2.1, b.2.2.1, l) : Int) := by
  have := yfb_lt h
  have hlow := ylow_lt (e := b.2.1) (o := b.2.2.1) h.1
  rw [show (31 : Int) = ((31 : Nat) : Int) from rfl, zand_nat (by omega) (by decide), zshl_5 (by omega)]
  have e1 : yfb b &&& 31 = ylow b.1 b.2.1 b.2.2.1 := by
    unfold yfb
    rw [and_low hlow (by decide), (low_and _ h.1 _ _).2.2.2]
  rw [e1, zor_nat (by omega) (by omega), Nat.or_comm, show l * 32 = 32 * l + 0 by omega, or_low (by decide) hlow, Nat.zero_or]
  rfl
theorem yfb_new (hk : k < 8) (hl : l ≤ 1048576) : zorI (zshlI (l : Int) 5) (k : Int) = (yfb (k, false, false, l) : Int) := by
  rw [zshl_5 (by omega), zor_nat (by omega) (by omega), show l * 32 = 32 * l + 0 by omega, or_low (by decide) (by omega), Nat.zero_or]
  unfold yfb ylow bN
  simp
/-! spans -/
theorem zshr_k {j : Nat} (hj : j < 32) (h : n < 2147483648) : zshrI (n : Int) (j : Int) = ((n / 2 ^ j : Nat) : Int) := by
  unfold zshrI i32
  have e : (Int32.ofInt (n : Int)).toInt = n := Int32.toInt_ofInt_of_le (by omega) (by omega)
  have e2 : ∀ j : Nat, j < 32 → ((Int32.ofInt (j : Int) &&& 31).toBitVec.smod 32).toNat = j := by decide +kernel
  rw [← Int32.toInt_toBitVec, Int32.toBitVec_shiftRight]
  show (BitVec.sshiftRight _ _).toInt = _
  rw [BitVec.toInt_sshiftRight, Int32.toInt_toBitVec, e, e2 j hj, Int.shiftRight_eq_div_pow]
  omega
theorem zshr_9 (h : n < 2147483648) : zshrI (n : Int) 9 = ((n / 512 : Nat) : Int) := zshr_k (j := 9) (by decide) h
theorem zshr_3 (h : n < 2147483648) : zshrI (n : Int) 3 = ((n / 8 : Nat) : Int) := zshr_k (j := 3) (by decide) h
theorem zshr_12 (h : n < 2147483648) : zshrI (n : Int) 12 = ((n / 4096 : Nat) : Int) := zshr_k (j := 12) (by decide) h
theorem zshr_2 (h : n < 2147483648) : zshrI (n : Int) 2 = ((n / 4 : Nat) : Int) := zshr_k (j := 2) (by decide) h
theorem zshl_k {j : Nat} (hj : j < 32) (h : n * 2 ^ j < 2147483648) : zshlI (n : Int) (j : Int) = ((n * 2 ^ j : Nat) : Int) := by
  have hn : n ≤ n * 2 ^ j := Nat.le_mul_of_pos_right n (Nat.two_pow_pos j)
  have e2 : ∀ j : Nat, j < 32 → ((i32 (j : Int) &&& 31).toBitVec.smod 32).toNat = j := by decide +kernel
  have e3 : i32 (n : Int) <<< (i32 (j : Int) &&& 31) = i32 ((n * 2 ^ j : Nat) : Int) := by
    apply Int32.toBitVec_inj.mp
    rw [Int32.toBitVec_shiftLeft, i32_bv n (by omega), i32_bv _ (by omega)]
    apply BitVec.eq_of_toNat_eq
    show (BitVec.ofNat 32 n <<< ((i32 (j : Int) &&& 31).toBitVec.smod 32).toNat).toNat = _
    rw [e2 j hj, BitVec.toNat_shiftLeft, BitVec.toNat_ofNat, BitVec.toNat_ofNat, Nat.shiftLeft_eq, Nat.mod_eq_of_lt (show n < 2 ^ 32 by omega)]
  unfold zshlI
  rw [e3, i32_toInt ⟨by omega, by omega⟩]
theorem zshl_9 (h : n < 4194304) : zshlI (n : Int) 9 = ((n * 512 : Nat) : Int) := zshl_k (j := 9) (by decide) (by omega)
theorem zshl_3 (h : n < 268435456) : zshlI (n : Int) 3 = ((n * 8 : Nat) : Int) := zshl_k (j := 3) (by decide) (by omega)
theorem zshl_12 (h : n < 524288) : zshlI (n : Int) 12 = ((n * 4096 : Nat) : Int) := zshl_k (j := 12) (by decide) (by omega)
theorem zshl_2 (h : n < 536870912) : zshlI (n : Int) 2 = ((n * 4 : Nat) : Int) := zshl_k (j := 2) (by decide) (by omega)
theorem zand_511 (h : n < 2147483648) : zandI (n : Int) 511 = ((n % 512 : Nat) : Int) := by
  have := zand_mask 9 (by decide) (a := (n : Int)) (by omega) (by omega)
  have e : zandI (n : Int) 511 = (n : Int) % 512 := this
  rw [e]; omega
theorem or_9 (hr : r < 512) : (512 * l) ||| r = 512 * l + r := by
  have := Nat.shiftLeft_add_eq_or_of_lt (show r < 2 ^ 9 from hr) l
  rw [Nat.shiftLeft_eq] at this
  rw [show 512 * l = l * 2 ^ 9 by omega, this]
theorem yspan (hm : m ≤ 150000) (hn : n < 512) : zorI (zshlI (m : Int) 9) (n : Int) = ((512 * m + n : Nat) : Int) := by
  rw [zshl_9 (by omega), zor_nat (by omega) (by omega), show m * 512 = 512 * m by omega, or_9 hn]
/-! pairs in a long -/
theorem i64_bv (hn : n < 9223372036854775808) : (i64 (n : Int)).toBitVec = BitVec.ofNat 64 n := by
  apply BitVec.eq_of_toNat_eq
  rw [show (i64 (n : Int)).toBitVec = BitVec.ofInt 64 (n : Int) from rfl, BitVec.toNat_ofInt, BitVec.toNat_ofNat]
  omega
theorem i64_int (hn : n < 9223372036854775808) : (i64 (n : Int)).toInt = n := Int64.toInt_ofInt_of_le (by omega) (by omega)
theorem zshl_32 (h : n < 2147483648) : zshlL (n : Int) 32 = ((4294967296 * n : Nat) : Int) := by
  have e2 : i64 (n : Int) <<< (Int32.toInt64 (i32 32) &&& 63) = i64 ((4294967296 * n : Nat) : Int) := by
    rw [show (Int32.toInt64 (i32 32) &&& 63) = 32 by decide]
    apply Int64.toBitVec_inj.mp
    rw [Int64.toBitVec_shiftLeft, i64_bv (by omega), i64_bv (by omega), show ((32 : Int64).toBitVec.smod 64) = 32#64 by decide]
    apply BitVec.eq_of_toNat_eq
    show (BitVec.ofNat 64 n <<< (32#64).toNat).toNat = _
    rw [BitVec.toNat_shiftLeft, BitVec.toNat_ofNat, BitVec.toNat_ofNat, BitVec.toNat_ofNat, show 32 % 2 ^ 64 = 32 by decide, Nat.shiftLeft_eq]
    omega
  unfold zshlL
  rw [e2, i64_int (by omega)]
theorem zor_32 (hm : m < 2147483648) (hn : n < 4294967296) : zorL ((4294967296 * m : Nat) : Int) (n : Int) = ((4294967296 * m + n : Nat) : Int) := by
  have e0 : (4294967296 * m) ||| n = 4294967296 * m + n := by
    have := Nat.shiftLeft_add_eq_or_of_lt (show n < 2 ^ 32 from hn) m
    rw [Nat.shiftLeft_eq] at this
    rw [show 4294967296 * m = m * 2 ^ 32 by omega, this]
  have e2 : i64 ((4294967296 * m : Nat) : Int) ||| i64 (n : Int) = i64 ((4294967296 * m + n : Nat) : Int) := by
    apply Int64.toBitVec_inj.mp
    rw [Int64.toBitVec_or, i64_bv (by omega), i64_bv (by omega), i64_bv (by omega)]
    apply BitVec.eq_of_toNat_eq
    rw [BitVec.toNat_or, BitVec.toNat_ofNat, BitVec.toNat_ofNat, BitVec.toNat_ofNat, Nat.mod_eq_of_lt (show 4294967296 * m < 2 ^ 64 by omega), Nat.mod_eq_of_lt (show n < 2 ^ 64 by omega), Nat.mod_eq_of_lt (show 4294967296 * m + n < 2 ^ 64 by omega), e0]
  unfold zorL
  rw [e2, i64_int (by omega)]
theorem ypair (hm : m < 2147483648) (hn : n < 4294967296) : zorL (zshlL (m : Int) 32) (n : Int) = ((4294967296 * m + n : Nat) : Int) := by rw [zshl_32 hm, zor_32 hm hn]
theorem zshr_32 (h : n < 9223372036854775808) : zshrL (n : Int) 32 = ((n / 4294967296 : Nat) : Int) := by
  unfold zshrL
  rw [show (Int32.toInt64 (i32 32) &&& 63) = 32 by decide, ← Int64.toInt_toBitVec, Int64.toBitVec_shiftRight, show ((32 : Int64).toBitVec.smod 64) = 32#64 by decide]
  show (BitVec.sshiftRight _ (32#64).toNat).toInt = _
  rw [BitVec.toInt_sshiftRight, Int64.toInt_toBitVec, i64_int h]
  show (n : Int) >>> 32 = _
  rw [Int.shiftRight_eq_div_pow]
  omega
theorem ypair_1 (hm : m < 2147483648) (hn : n < 4294967296) : zl2i (zshrL ((4294967296 * m + n : Nat) : Int) 32) = (m : Int) := by
  rw [zshr_32 (by omega), show (4294967296 * m + n) / 4294967296 = m by omega]
  exact zl2i_in ⟨by omega, by omega⟩
theorem ypair_2 (hm : m < 2147483648) (hn : n < 2147483648) : zl2i ((4294967296 * m + n : Nat) : Int) = (n : Int) := by
  have e2 : Int64.toInt32 (i64 ((4294967296 * m + n : Nat) : Int)) = i32 (n : Int) := by
    apply Int32.toBitVec_inj.mp
    rw [i32_bv n hn]
    show (i64 ((4294967296 * m + n : Nat) : Int)).toBitVec.signExtend 32 = _
    rw [i64_bv (by omega), BitVec.signExtend_eq_setWidth_of_le _ (by decide)]
    apply BitVec.eq_of_toNat_eq
    rw [BitVec.toNat_setWidth, BitVec.toNat_ofNat, BitVec.toNat_ofNat]
    omega
  unfold zl2i
  rw [e2, i32_toInt ⟨by omega, by omega⟩]
end HBits
