set_option maxRecDepth 100000
/-! THE REFERENCE'S PARSER: names and their strength -/
theorem i32_bv : ∀ n : Nat, n < 2147483648 → (i32 (n : Int)).toBitVec = BitVec.ofNat 32 n := by
  intro n hn
  apply BitVec.eq_of_toNat_eq
  rw [show (i32 (n : Int)).toBitVec = BitVec.ofInt 32 (n : Int) from rfl, BitVec.toNat_ofInt, BitVec.toNat_ofNat]
  omega
theorem zand_nat {m k : Nat} (hm : m < 2147483648) (hk : k < 2147483648) : zandI (m : Int) (k : Int) = ((m &&& k : Nat) : Int) := by
  have hl : m &&& k ≤ m := Nat.and_le_left
  have e2 : i32 (m : Int) &&& i32 (k : Int) = i32 ((m &&& k : Nat) : Int) := by
    apply Int32.toBitVec_inj.mp
    rw [Int32.toBitVec_and, i32_bv m hm, i32_bv k hk, i32_bv _ (by omega)]
    apply BitVec.eq_of_toNat_eq
    rw [BitVec.toNat_and, BitVec.toNat_ofNat, BitVec.toNat_ofNat, BitVec.toNat_ofNat, Nat.mod_eq_of_lt (show m < 2 ^ 32 by omega), Nat.mod_eq_of_lt (show k < 2 ^ 32 by omega), Nat.mod_eq_of_lt (show m &&& k < 2 ^ 32 by omega)]
  unfold zandI
  rw [e2, i32_toInt ⟨by omega, by omega⟩]
theorem zor_nat {m k : Nat} (hm : m < 1073741824) (hk : k < 1073741824) : zorI (m : Int) (k : Int) = ((m ||| k : Nat) : Int) := by
  have hl : m ||| k < 2 ^ 30 := Nat.or_lt_two_pow hm hk
  have e2 : i32 (m : Int) ||| i32 (k : Int) = i32 ((m ||| k : Nat) : Int) := by
    apply Int32.toBitVec_inj.mp
    rw [Int32.toBitVec_or, i32_bv m (by omega), i32_bv k (by omega), i32_bv _ (by omega)]
    apply BitVec.eq_of_toNat_eq
    rw [BitVec.toNat_or, BitVec.toNat_ofNat, BitVec.toNat_ofNat, BitVec.toNat_ofNat, Nat.mod_eq_of_lt (show m < 2 ^ 32 by omega), Nat.mod_eq_of_lt (show k < 2 ^ 32 by omega), Nat.mod_eq_of_lt (show m ||| k < 2 ^ 32 by omega)]
  unfold zorI
  rw [e2, i32_toInt ⟨by omega, by omega⟩]
theorem zshr_5 {n : Nat} (h : n < 2147483648) : zshrI (n : Int) 5 = ((n / 32 : Nat) : Int) := by
  unfold zshrI i32
  rw [show (Int32.ofInt 5 &&& 31) = 5 by decide]
  have e : (Int32.ofInt (n : Int)).toInt = n := Int32.toInt_ofInt_of_le (by omega) (by omega)
  rw [← Int32.toInt_toBitVec, Int32.toBitVec_shiftRight, show ((5 : Int32).toBitVec.smod 32) = 5#32 by decide]
  show (BitVec.sshiftRight _ (5#32).toNat).toInt = _
  rw [BitVec.toInt_sshiftRight, Int32.toInt_toBitVec, e]
  show (n : Int) >>> 5 = _
  rw [Int.shiftRight_eq_div_pow]
  omega
theorem zshl_5 {n : Nat} (h : n < 33554432) : zshlI (n : Int) 5 = ((n * 32 : Nat) : Int) := by
  have e2 : i32 (n : Int) <<< (i32 5 &&& 31) = i32 ((n * 32 : Nat) : Int) := by
    rw [show (i32 5 &&& 31) = 5 by decide]
    apply Int32.toBitVec_inj.mp
    rw [Int32.toBitVec_shiftLeft, i32_bv n (by omega), i32_bv _ (by omega), show ((5 : Int32).toBitVec.smod 32) = 5#32 by decide]
    apply BitVec.eq_of_toNat_eq
    show (BitVec.ofNat 32 n <<< (5#32).toNat).toNat = _
    rw [BitVec.toNat_shiftLeft, BitVec.toNat_ofNat, BitVec.toNat_ofNat, BitVec.toNat_ofNat, show 5 % 2 ^ 32 = 5 by decide, Nat.shiftLeft_eq]
    omega
  unfold zshlI
  rw [e2, i32_toInt ⟨by omega, by omega⟩]
theorem zand_15 {n : Nat} (h : n < 2147483648) : zandI (n : Int) 15 = ((n % 16 : Nat) : Int) := by
  have := zand_mask 4 (by decide) (a := (n : Int)) (by omega) (by omega)
  have e : zandI (n : Int) 15 = (n : Int) % 16 := this
  rw [e]
  omega
theorem zand_16 {n : Nat} (h : n < 2147483648) : zandI (n : Int) 16 = ((n / 16 % 2 * 16 : Nat) : Int) := by
  have := zand_nat (m := n) (k := 16) h (by decide)
  have e : zandI (n : Int) 16 = ((n &&& 16 : Nat) : Int) := this
  have h31 : n &&& 16 = (n % 32) &&& 16 := by
    rw [show n % 32 = n &&& 31 from (Nat.and_two_pow_sub_one_eq_mod n 5).symm, Nat.and_assoc]
    rfl
  have fin : ∀ r : Nat, r < 32 → r &&& 16 = r / 16 % 2 * 16 := by decide
  rw [e, h31, fin _ (Nat.mod_lt _ (by decide))]
  omega
/-- as F has it; = always stands with 4 -/
def pFe (F : Fx) (b : List Int) : Option (Int × Int) := if b = [61] then some (4, 0) else pFx F b
section ZNam
variable {t : List Int} {Γ : Zg} {S S' : ZS} {σ σ1 : Ps} {W W' : List (List Int)} {M : Zm} {g g' : Int} {d n : Nat} {Q : Option (Option ZV) → ZS → Prop} {r : (Int × Nat) ⊕ (Gt × Ps)} {f : Ps → PR} {e0 : PR} {F : Fx} {b : List Int} {x h v : Int} {c : Tok}
theorem pFx_eq {L : Fx} (h1 : L.filter (fun x => decide (x.1 ≠ [61])) = F) (h2 : ∀ x ∈ L, x.1 = [61] → x.2 = (4, 0)) (h3 : ∃ x ∈ L, x.1 = [61]) : pFx L b = pFe F b := by
  unfold pFe
  by_cases hb : b = [61]
  · rw [if_pos hb]
    unfold pFx
    cases e : L.find? (fun x => decide (x.1 = b)) with
    | none =>
      obtain ⟨x, q1, q2⟩ := h3
      have := List.find?_eq_none.mp e x q1
      rw [hb, q2] at this
      exact absurd (by decide) this
    | some x =>
      have q1 := List.mem_of_find?_eq_some e
      have q2 := List.find?_some e
      rw [decide_eq_true_eq] at q2
      have := h2 x q1 (q2.trans hb)
      show (if x.2.1 < 0 then none else some x.2) = _
      rw [this]; rfl
  · rw [if_neg hb, ← h1]
    unfold pFx
    rw [List.find?_filter]
    have : (fun a : List Int × Int × Int => decide (a.1 ≠ [61]) && decide (a.1 = b)) = fun a => decide (a.1 = b) := by
      funext a
      by_cases q : a.1 = b
      · rw [decide_eq_true q, q, decide_eq_true hb]; rfl
      · rw [decide_eq_false q, Bool.and_false]
    have e2 : (fun a : List Int × Int × Int => decide (decide (a.1 ≠ [61]) = true ∧ decide (a.1 = b) = true)) = fun a => decide (a.1 = b) := by
      funext a
      by_cases q : a.1 = b
      · rw [q]; simp [hb]
      · simp [q]
    first | rw [this] | rw [e2]
theorem z_fixAt (hW : W.length < 14990) (hn : W.Nodup) (hx : zname W x b) : ∀ (L : Fx) (h : Int), zFX S W h L → ∃ v, ZL (d + 1) 378 [.inl x, .inl h] S = some (some (some (.inl v)), S) ∧ zFv S v (pFx L b) ∧ (0 ≤ v → v < S.1 46)
  | [], h, q => by
    have q : h = -1 := q
    subst q
    refine ⟨-1, zW_get (zl_fixOf_p5 ?_), rfl, fun w => absurd w (by decide)⟩
    unfold zb_fixOf_p5
    exact zW_t rfl (zW_rI ⟨rfl, rfl⟩)
  | f :: L, h, q => by
    obtain ⟨q1, q2, q0, ⟨w, w1, w2, w3⟩, q4, q5, q6, q7⟩ := q
    obtain ⟨u, u1, u2, u3⟩ := hx
    have hf : f.2.1 % 16 = if f.2.1 < 0 then 15 else f.2.1 := by split <;> omega
    have hv : S.2.2.1 17 h = ((w * 32 + (f.2.1 % 16).toNat + 16 * f.2.2.toNat : Nat) : Int) := by rw [w3]; omega
    have e5 : zshrI (S.2.2.1 17 h) 5 = (w : Int) := by
      rw [hv, zshr_5 (by omega)]; omega
    have e15 : zandI (S.2.2.1 17 h) 15 = f.2.1 % 16 := by
      rw [hv, zand_15 (by omega)]; omega
    have hb : b = f.1 ↔ w = u := by
      rw [← u3, ← w2]
      exact ⟨fun z => (nodup_getD hn u1 w1 z).symm, fun z => by rw [z]⟩
    by_cases hbf : f.1 = b
    · have hwu : w = u := hb.mp hbf.symm
      have hp : pFx (f :: L) b = if f.2.1 < 0 then none else some f.2 := by
        unfold pFx
        rw [List.find?_cons_of_pos (by rw [decide_eq_true_eq]; exact hbf)]
      rw [hp]
      by_cases hs : f.2.1 < 0
      · rw [if_pos hs] at hf ⊢
        refine ⟨-1, zW_get (zl_fixOf_p5 ?_), rfl, fun w => absurd w (by decide)⟩
        unfold zb_fixOf_p5
        refine zW_f (by omega) (zW_a ⟨q1, by omega⟩ (zW_t (by rw [e5]; omega) (zW_Ie (v := 15) (S := S) (zW_get (zl_strength ?_)) (zW_t rfl (zW_rI ⟨rfl, rfl⟩)))))
        unfold zb_strength
        exact zW_a ⟨q1, by omega⟩ (zW_rI ⟨by rw [e15, hf], rfl⟩)
      · rw [if_neg hs] at hf ⊢
        refine ⟨h, zW_get (zl_fixOf_p5 ?_), ⟨q1, q0, ⟨w, by omega, by rw [hv, hf]⟩, by omega, q5, q6⟩, fun _ => q2⟩
        unfold zb_fixOf_p5
        refine zW_f (by omega) (zW_a ⟨q1, by omega⟩ (zW_t (by rw [e5]; omega) (zW_Ie (v := f.2.1) (S := S) (zW_get (zl_strength ?_)) (zW_f (by omega) (zW_rI ⟨rfl, rfl⟩)))))
        unfold zb_strength
        exact zW_a ⟨q1, by omega⟩ (zW_rI ⟨by rw [e15, hf], rfl⟩)
    · have hwu : w ≠ u := fun z => hbf (hb.mpr z).symm
      have hp : pFx (f :: L) b = pFx L b := by
        unfold pFx
        rw [List.find?_cons_of_neg (by rw [decide_eq_true_eq]; exact hbf)]
      rw [hp]
      obtain ⟨v, e, z⟩ := z_fixAt hW hn ⟨u, u1, u2, u3⟩ L _ q7
      refine ⟨v, zW_get (zl_fixOf_p5 ?_), z⟩
      unfold zb_fixOf_p5
      exact zW_f (by omega) (zW_a ⟨q1, by omega⟩ (zW_f (by rw [e5]; omega) (zW_a ⟨q1, by omega⟩ (zW_let (zW_eq e ⟨rfl, rfl⟩)))))
theorem z_fixOf (Z : ZZ t Γ S σ W M g) (hx : zname W x b) : ∃ v, ZL (d + 1) 61 [.inl x] S = some (some (some (.inl v)), S) ∧ zFv S v (pFe (pF σ) b) ∧ (0 ≤ v → v < S.1 46) := by
  obtain ⟨L, h1, h2, h3, h4⟩ := Z.2.2.2.1
  obtain ⟨v, e, z⟩ := z_fixAt (d := d) Z.1.2.1.2.2.1 Z.1.2.1.1.2.2.2.2.1 hx L _ h1
  rw [pFx_eq h2 h3 h4] at z
  refine ⟨v, zW_get (zl_fixOf ?_), z⟩
  unfold zb_fixOf
  exact zW_let (zW_eq e ⟨rfl, rfl⟩)
theorem z_isInfix (Z : ZZ t Γ S σ W M g) (hx : zname W x b) : ZL (d + 2) 60 [.inl x] S = some (some (some (.inl (if pFe (pF σ) b ≠ none then 1 else 0))), S) := by
  obtain ⟨v, e, z, -⟩ := z_fixOf (d := d) Z hx
  refine zW_get (zl_isInfix ?_)
  unfold zb_isInfix
  refine zW_Ie (zW_get (zW_c (zW_eq e ⟨rfl, rfl⟩))) ?_
  cases q : pFe (pF σ) b with
  | none =>
    rw [q] at z
    exact zW_t z (zW_rZ (Or.inl rfl) ⟨by rw [if_neg (fun w => w rfl)], rfl⟩)
  | some u =>
    rw [q] at z
    refine zW_f ?_ (zW_rZ (Or.inr rfl) ⟨by rw [if_pos (by intro w; cases w)], rfl⟩)
    have := z.1
    omega
theorem z_strength {u : Int × Int} (h : zFv S v (some u)) : ZL d 62 [.inl v] S = some (some (some (.inl u.1)), S) := by
  obtain ⟨h1, h2, ⟨w, w1, w2⟩, h3, h4, h5⟩ := h
  refine zW_get (zl_strength ?_)
  unfold zb_strength
  refine zW_a ⟨h1, h2⟩ (zW_rI ⟨?_, rfl⟩)
  rw [w2, zand_15 (by omega)]
  congr 3
  omega
theorem z_isRight {u : Int × Int} (h : zFv S v (some u)) : ZL d 94 [.inl v] S = some (some (some (.inl u.2)), S) := by
  obtain ⟨h1, h2, ⟨w, w1, w2⟩, h3, h4, h5⟩ := h
  refine zW_get (zl_isRight ?_)
  unfold zb_isRight
  refine zW_a ⟨h1, h2⟩ ?_
  rw [w2, zand_16 (by omega)]
  rcases h5 with z | z <;> rw [z]
  · exact zW_t (by omega) (zW_rZ (Or.inl rfl) ⟨rfl, rfl⟩)
  · exact zW_f (by omega) (zW_rZ (Or.inr rfl) ⟨rfl, rfl⟩)
end ZNam
