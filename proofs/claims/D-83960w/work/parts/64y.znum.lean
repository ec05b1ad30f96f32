set_option maxRecDepth 100000
/-! WHOLE NUMBERS and the machine's: what each step on them is -/
theorem i32_add (a b : Int) : i32 a + i32 b = i32 (a + b) := (Int32.ofInt_add a b).symm
theorem i32_sub (a b : Int) : i32 a - i32 b = i32 (a - b) := (Int32.ofInt_sub a b).symm
theorem i32_mul (a b : Int) : i32 a * i32 b = i32 (a * b) := (Int32.ofInt_mul a b).symm
theorem i32_neg (a : Int) : -i32 a = i32 (-a) := (Int32.ofInt_neg a).symm
theorem i64_add (a b : Int) : i64 a + i64 b = i64 (a + b) := (Int64.ofInt_add a b).symm
theorem i64_sub (a b : Int) : i64 a - i64 b = i64 (a - b) := (Int64.ofInt_sub a b).symm
theorem i64_mul (a b : Int) : i64 a * i64 b = i64 (a * b) := (Int64.ofInt_mul a b).symm
theorem i64_neg (a : Int) : -i64 a = i64 (-a) := (Int64.ofInt_neg a).symm
theorem i32_toInt {a : Int} (h : inI a) : (i32 a).toInt = a := Int32.toInt_ofInt_of_le h.1 h.2
theorem i64_toInt {a : Int} (h : inL a) : (i64 a).toInt = a := Int64.toInt_ofInt_of_le h.1 h.2
theorem i32_self (x : Int32) : i32 x.toInt = x := Int32.ofInt_toInt x
theorem i64_self (x : Int64) : i64 x.toInt = x := Int64.ofInt_toInt x
theorem i32_inj {a b : Int} (ha : inI a) (hb : inI b) : i32 a = i32 b ↔ a = b := ⟨fun h => by rw [← i32_toInt ha, h, i32_toInt hb], fun h => by rw [h]⟩
theorem i64_inj {a b : Int} (ha : inL a) (hb : inL b) : i64 a = i64 b ↔ a = b := ⟨fun h => by rw [← i64_toInt ha, h, i64_toInt hb], fun h => by rw [h]⟩
theorem E_in (x : Int32) : inI x.toInt := ⟨Int32.le_toInt x, Int32.toInt_lt x⟩
theorem J_in (x : Int64) : inL x.toInt := ⟨Int64.le_toInt x, Int64.toInt_lt x⟩
theorem inL_I {a : Int} (h : inI a) : inL a := by constructor <;> omega
section EJ
variable {x y : Int32} {a b : Int}
theorem E_add (hx : x = i32 a) (hy : y = i32 b) : x + y = i32 (a + b) := by rw [hx, hy, i32_add]
theorem E_sub (hx : x = i32 a) (hy : y = i32 b) : x - y = i32 (a - b) := by rw [hx, hy, i32_sub]
theorem E_mul (hx : x = i32 a) (hy : y = i32 b) : x * y = i32 (a * b) := by rw [hx, hy, i32_mul]
theorem E_neg (hx : x = i32 a) : -x = i32 (-a) := by rw [hx, i32_neg]
theorem E_div (hx : x = i32 a) (hy : y = i32 b) : x / y = i32 (zdivI a b) := by subst hx hy; exact (i32_self _).symm
theorem E_and (hx : x = i32 a) (hy : y = i32 b) : x &&& y = i32 (zandI a b) := by subst hx hy; exact (i32_self _).symm
theorem E_or (hx : x = i32 a) (hy : y = i32 b) : x ||| y = i32 (zorI a b) := by subst hx hy; exact (i32_self _).symm
theorem E_xor (hx : x = i32 a) (hy : y = i32 b) : x ^^^ y = i32 (zxorI a b) := by subst hx hy; exact (i32_self _).symm
theorem E_shl (hx : x = i32 a) (hy : y = i32 b) : x <<< (y &&& 31) = i32 (zshlI a b) := by subst hx hy; exact (i32_self _).symm
theorem E_shr (hx : x = i32 a) (hy : y = i32 b) : x >>> (y &&& 31) = i32 (zshrI a b) := by subst hx hy; exact (i32_self _).symm
theorem E_byte (hx : x = i32 a) : vp_nar .byte ((Int32.toInt8 x).toInt32) = i32 (zbyte a) := by
  subst hx
  unfold zbyte
  rw [i32_self]
  unfold vp_nar narrow
  simp
theorem E_bool (hx : x = i32 a) : vp_nar .boolean x = i32 (zbool a) := by
  subst hx
  unfold zbool
  rw [i32_self]
  rfl
theorem E_l2i {x : Int64} (hx : x = i64 a) : Int64.toInt32 x = i32 (zl2i a) := by subst hx; exact (i32_self _).symm
theorem J_i2l (hx : x = i32 a) (h : inI a) : Int32.toInt64 x = i64 a := by
  subst hx
  rw [← i64_self (Int32.toInt64 (i32 a)), Int32.toInt_toInt64, i32_toInt h]
theorem E_eq (hx : x = i32 a) (hy : y = i32 b) (ha : inI a) (hb : inI b) : x = y ↔ a = b := by subst hx hy; exact i32_inj ha hb
theorem E_lt (hx : x = i32 a) (hy : y = i32 b) (ha : inI a) (hb : inI b) : x < y ↔ a < b := by
  subst hx hy
  rw [Int32.lt_iff_toInt_lt, i32_toInt ha, i32_toInt hb]
theorem E_le (hx : x = i32 a) (hy : y = i32 b) (ha : inI a) (hb : inI b) : x ≤ y ↔ a ≤ b := by
  subst hx hy
  rw [Int32.le_iff_toInt_le, i32_toInt ha, i32_toInt hb]
end EJ
section JJ
variable {x y : Int64} {k : Int32} {a b : Int}
theorem J_add (hx : x = i64 a) (hy : y = i64 b) : x + y = i64 (a + b) := by rw [hx, hy, i64_add]
theorem J_sub (hx : x = i64 a) (hy : y = i64 b) : x - y = i64 (a - b) := by rw [hx, hy, i64_sub]
theorem J_mul (hx : x = i64 a) (hy : y = i64 b) : x * y = i64 (a * b) := by rw [hx, hy, i64_mul]
theorem J_neg (hx : x = i64 a) : -x = i64 (-a) := by rw [hx, i64_neg]
theorem J_div (hx : x = i64 a) (hy : y = i64 b) : x / y = i64 (zdivL a b) := by subst hx hy; exact (i64_self _).symm
theorem J_and (hx : x = i64 a) (hy : y = i64 b) : x &&& y = i64 (zandL a b) := by subst hx hy; exact (i64_self _).symm
theorem J_or (hx : x = i64 a) (hy : y = i64 b) : x ||| y = i64 (zorL a b) := by subst hx hy; exact (i64_self _).symm
theorem J_xor (hx : x = i64 a) (hy : y = i64 b) : x ^^^ y = i64 (zxorL a b) := by subst hx hy; exact (i64_self _).symm
theorem J_shl (hx : x = i64 a) (hy : k = i32 b) : x <<< (Int32.toInt64 k &&& 63) = i64 (zshlL a b) := by subst hx hy; exact (i64_self _).symm
theorem J_shr (hx : x = i64 a) (hy : k = i32 b) : x >>> (Int32.toInt64 k &&& 63) = i64 (zshrL a b) := by subst hx hy; exact (i64_self _).symm
theorem J_ushr (hx : x = i64 a) (hy : k = i32 b) : (Int64.toUInt64 x >>> ((Int32.toInt64 k).toUInt64 &&& Int64.toUInt64 63)).toInt64 = i64 (zushrL a b) := by subst hx hy; exact (i64_self _).symm
theorem J_cmp (hx : x = i64 a) (hy : y = i64 b) (ha : inL a) (hb : inL b) : lg_cmp x y = if b < a then 1 else if a = b then 0 else -1 := by
  subst hx hy
  unfold lg_cmp
  simp only [GT.gt, Int64.lt_iff_toInt_lt, i64_toInt ha, i64_toInt hb, i64_inj ha hb]
theorem J_eq (hx : x = i64 a) (hy : y = i64 b) (ha : inL a) (hb : inL b) : lg_cmp x y = 0 ↔ a = b := by
  rw [J_cmp hx hy ha hb]
  by_cases h1 : b < a
  · rw [if_pos h1]; exact ⟨fun h => absurd h (by decide), fun h => absurd h (by omega)⟩
  · rw [if_neg h1]
    by_cases h2 : a = b
    · rw [if_pos h2]; exact ⟨fun _ => h2, fun _ => rfl⟩
    · rw [if_neg h2]; exact ⟨fun h => absurd h (by decide), fun h => absurd h h2⟩
theorem J_lt (hx : x = i64 a) (hy : y = i64 b) (ha : inL a) (hb : inL b) : lg_cmp x y < 0 ↔ a < b := by
  rw [J_cmp hx hy ha hb]
  by_cases h1 : b < a
  · rw [if_pos h1]; exact ⟨fun h => absurd h (by decide), fun h => absurd h (by omega)⟩
  · rw [if_neg h1]
    by_cases h2 : a = b
    · rw [if_pos h2]; exact ⟨fun h => absurd h (by decide), fun h => absurd h (by omega)⟩
    · rw [if_neg h2]; exact ⟨fun _ => by omega, fun _ => by decide⟩
theorem J_le (hx : x = i64 a) (hy : y = i64 b) (ha : inL a) (hb : inL b) : lg_cmp x y ≤ 0 ↔ a ≤ b := by
  rw [J_cmp hx hy ha hb]
  by_cases h1 : b < a
  · rw [if_pos h1]; exact ⟨fun h => absurd h (by decide), fun h => absurd h (by omega)⟩
  · rw [if_neg h1]
    by_cases h2 : a = b
    · rw [if_pos h2]; exact ⟨fun _ => by omega, fun _ => by decide⟩
    · rw [if_neg h2]; exact ⟨fun _ => by omega, fun _ => by decide⟩
end JJ
def evm : ZV → Value := fun x => match x with
  | .inl v => .int (i32 v)
  | .inr (.inl v) => .long (i64 v)
  | .inr (.inr r) => va_rf r
def wfv : ZV → Prop := fun x => match x with
  | .inl v => inI v
  | .inr (.inl v) => inL v
  | .inr (.inr _) => True
def evo (o : Option (Option ZV)) : Option (Option Value) := o.map (fun q => q.map evm)
