set_option maxRecDepth 100000
/-! THE HOUSE'S TYPES: labels compared, found -/
section HComp
variable {B : Nat → Prop} {T : Nat → Nat} {ν : Hmp} {H H' H2 : YS} {C : YC} {d f k j n m x y t : Nat} {a b : List Int} {sa sb : Nat} {G : TG} {fl : Nat → Yfl} {sp : Nat → Nat × Nat} {lb : Nat → List Int} {Q : Option (Option ZV) → YS → Prop}
theorem drop_c (h : k < a.length) : a.drop k = a.getD k 0 :: a.drop (k + 1) := by
  rw [List.drop_eq_getElem_cons h, List.getD_eq_getElem?_getD, List.getElem?_eq_getElem h]; rfl
theorem y_cmp2 (hC : CW C) (ha : StrY B H sa a) (hb : StrY B H sb b) (la : a.length ≤ 200) (lb : b.length ≤ 200) (hk : k ≤ a.length ∧ k ≤ b.length) (hne : k < a.length → k < b.length → a.getD k 0 ≠ b.getD k 0) : YL C (d + 4) 778 [zr sa, zr sb, .inl (k : Int)] H = some (some (some (.inl (llex (a.drop k) (b.drop k)))), H) := by
  refine zW_get (yl_Types_compare_p105 ?_)
  unfold yb_Types_compare_p105
  rw [ycv_str ha.2.1]
  refine zW_Ie (zc_s.trans (y_length hC ha (by omega))) (zW_if (fun h1 => ?_) (fun h1 => ?_))
  · rw [ycv_str hb.2.1]
    refine zW_Ie (zc_s.trans (y_length hC hb (by omega))) (zW_if (fun h2 => ?_) (fun h2 => ?_))
    · have k1 : k < a.length := by omega
      have k2 : k < b.length := by omega
      rw [ycv_str ha.2.1]
      refine zW_Ie (zc_s.trans (y_charAt hC ha k1)) ?_
      rw [ycv_str hb.2.1]
      refine zW_Ie (zc_s.trans (y_charAt hC hb k2)) ?_
      have e : llex (a.drop k) (b.drop k) = if a.getD k 0 < b.getD k 0 then -1 else 1 := by
        rw [drop_c k1, drop_c k2]
        show (if a.getD k 0 = b.getD k 0 then _ else if a.getD k 0 < b.getD k 0 then -1 else 1) = _
        rw [if_neg (hne k1 k2)]
      rw [e]
      exact zW_if (fun q => zW_rI ⟨by rw [if_pos q], rfl⟩) (fun q => zW_rI ⟨by rw [if_neg q], rfl⟩)
    · rw [ycv_str ha.2.1]
      refine zW_Ie (zc_s.trans (y_length hC ha (by omega))) ?_
      rw [ycv_str hb.2.1]
      refine zW_Ie (zc_s.trans (y_length hC hb (by omega))) (zW_G (by omega) (zW_rI ⟨?_, rfl⟩))
      have : b.drop k = [] := List.drop_eq_nil_of_le (by omega)
      rw [this, llex_len (Or.inr rfl), List.length_drop, List.length_nil]
      have : ((a.length : Int) - b.length) = ((a.length - k : Nat) : Int) - ((0 : Nat) : Int) := by omega
      rw [this]
  · rw [ycv_str ha.2.1]
    refine zW_Ie (zc_s.trans (y_length hC ha (by omega))) ?_
    rw [ycv_str hb.2.1]
    refine zW_Ie (zc_s.trans (y_length hC hb (by omega))) (zW_G (by omega) (zW_rI ⟨?_, rfl⟩))
    have : a.drop k = [] := List.drop_eq_nil_of_le (by omega)
    rw [this, llex_len (Or.inl rfl), List.length_drop, List.length_nil]
    have : ((a.length : Int) - b.length) = ((0 : Nat) : Int) - ((b.length - k : Nat) : Int) := by omega
    rw [this]
theorem y_cmp1 (hC : CW C) (ha : StrY B H sa a) (hb : StrY B H sb b) (la : a.length ≤ 200) (lb : b.length ≤ 200) : ∀ (r k : Nat), a.length < k + r → (k ≤ a.length ∧ k ≤ b.length) → YL C (d + 4) 538 [zr sa, zr sb, .inl (k : Int)] H = some (some (some (.inl (llex (a.drop k) (b.drop k)))), H) := by
  intro r
  induction r with
  | zero => intro k h1 h2; omega
  | succ r ih =>
    intro k h1 h2
    refine zW_get (yl_Types_compare_p70 ?_)
    unfold yb_Types_compare_p70
    rw [ycv_str ha.2.1]
    refine zW_Ie (zc_s.trans (y_length hC ha (by omega))) (zW_if (fun w1 => ?_) (fun w1 => ?_))
    · rw [ycv_str hb.2.1]
      refine zW_Ie (zc_s.trans (y_length hC hb (by omega))) (zW_if (fun w2 => ?_) (fun w2 => ?_))
      · have k1 : k < a.length := by omega
        have k2 : k < b.length := by omega
        rw [ycv_str ha.2.1]
        refine zW_Ie (zc_s.trans (y_charAt hC ha k1)) ?_
        rw [ycv_str hb.2.1]
        refine zW_Ie (zc_s.trans (y_charAt hC hb k2)) (zW_if (fun q => zW_G (by omega) (zW_let ?_)) (fun q => ?_))
        · have e : llex (a.drop k) (b.drop k) = llex (a.drop (k + 1)) (b.drop (k + 1)) := by
            rw [drop_c k1, drop_c k2]
            show (if a.getD k 0 = b.getD k 0 then _ else _) = _
            rw [if_pos q]
          rw [e, show (k : Int) + 1 = ((k + 1 : Nat) : Int) by omega]
          exact zW_eq (ih (k + 1) (by omega) (by omega)) ⟨rfl, rfl⟩
        · exact zW_eq (y_cmp2 hC ha hb la lb h2 (fun _ _ => q)) ⟨rfl, rfl⟩
      · exact zW_eq (y_cmp2 hC ha hb la lb h2 (fun _ z => absurd (by omega) w2)) ⟨rfl, rfl⟩
    · exact zW_eq (y_cmp2 hC ha hb la lb h2 (fun z _ => absurd (by omega) w1)) ⟨rfl, rfl⟩
theorem sDig_num (ha : a ≠ []) : bI (sDigit (a.getD 0 0)) = if lnum a then 1 else 0 := by
  unfold sDigit lnum
  by_cases q : 48 ≤ a.getD 0 0 ∧ a.getD 0 0 ≤ 57
  · rw [if_pos q, decide_eq_true q]; rfl
  · rw [if_neg q, decide_eq_false q]; rfl
theorem y_compare (hC : CW C) (ha : StrY B H sa a) (hb : StrY B H sb b) (la : a.length ≤ 200) (lb : b.length ≤ 200) (na : a ≠ []) (nb : b ≠ []) : YL C (d + 4) 71 [zr sa, zr sb] H = some (some (some (.inl (lcmp a b))), H) := by
  have k1 : 0 < a.length := List.length_pos_iff.mpr na
  have k2 : 0 < b.length := List.length_pos_iff.mpr nb
  have c1 : ∀ d, zc (YL C) (d + 4) 537 [zr sa, .inl 0] H = some (some (some (.inl (a.getD 0 0))), H) := fun d => zc_s.trans (y_charAt (k := 0) hC ha k1)
  have c2 : ∀ d, zc (YL C) (d + 4) 537 [zr sb, .inl 0] H = some (some (some (.inl (b.getD 0 0))), H) := fun d => zc_s.trans (y_charAt (k := 0) hC hb k2)
  have dg : ∀ {c : Int} {d}, zc (YL C) (d + 1) 15 [.inl c] H = some (some (some (.inl (bI (sDigit c)))), H) := zc_s.trans y_isDigit
  have go := y_cmp1 (d := d) hC ha hb la lb (a.length + 1) 0 (by omega) (by omega)
  rw [List.drop_zero, List.drop_zero] at go
  have go' : YL C (d + 4) 538 [zr sa, zr sb, .inl 0] H = some (some (some (.inl (llex a b))), H) := go
  refine zW_get (yl_Types_compare ?_)
  unfold yb_Types_compare
  rw [ycv_str ha.2.1]
  refine zW_Ie (c1 d) (zW_Ie dg ?_)
  rw [ycv_str hb.2.1]
  refine zW_Ie (c2 d) (zW_Ie dg ?_)
  rw [sDig_num na, sDig_num nb]
  unfold lcmp
  by_cases A : lnum a <;> by_cases D : lnum b
  · have e1 : lnum a ↔ lnum b := ⟨fun _ => D, fun _ => A⟩
    rw [if_pos e1, if_pos A, if_pos D]
    refine zW_t rfl ?_
    rw [ycv_str ha.2.1]
    refine zW_Ie (c1 d) (zW_Ie dg ?_)
    rw [sDig_num na, if_pos A]
    refine zW_f (by decide) ?_
    rw [ycv_str ha.2.1]
    refine zW_Ie (zc_s.trans (y_length hC ha (by omega))) ?_
    rw [ycv_str hb.2.1]
    refine zW_Ie (zc_s.trans (y_length hC hb (by omega))) (zW_if (fun q => zW_let (zW_eq go' ⟨?_, rfl⟩)) (fun q => ?_))
    · have w1 : ¬ (lnum a ∧ a.length ≠ b.length) := fun z => z.2 (by omega)
      rw [if_neg w1]
    · have w1 : lnum a ∧ a.length ≠ b.length := ⟨A, fun z => q (by omega)⟩
      rw [ycv_str ha.2.1]
      refine zW_Ie (zc_s.trans (y_length hC ha (by omega))) ?_
      rw [ycv_str hb.2.1]
      refine zW_Ie (zc_s.trans (y_length hC hb (by omega))) (zW_G (by omega) (zW_rI ⟨?_, rfl⟩))
      rw [if_pos w1]
  · have e1 : ¬ (lnum a ↔ lnum b) := fun z => D (z.mp A)
    rw [if_neg e1, if_pos A, if_neg D]
    refine zW_f (by decide) ?_
    rw [ycv_str ha.2.1]
    refine zW_Ie (c1 d) (zW_Ie dg ?_)
    rw [sDig_num na, if_pos A]
    exact zW_f (by decide) (zW_rI ⟨by rw [if_pos A], rfl⟩)
  · have e1 : ¬ (lnum a ↔ lnum b) := fun z => A (z.mpr D)
    rw [if_neg e1, if_neg A, if_pos D]
    refine zW_f (by decide) ?_
    rw [ycv_str ha.2.1]
    refine zW_Ie (c1 d) (zW_Ie dg ?_)
    rw [sDig_num na, if_neg A]
    exact zW_t rfl (zW_rI ⟨by rw [if_neg A], rfl⟩)
  · have e1 : lnum a ↔ lnum b := ⟨fun z => absurd z A, fun z => absurd z D⟩
    have w1 : ¬ (lnum a ∧ a.length ≠ b.length) := fun z => A z.1
    rw [if_pos e1, if_neg A, if_neg D, if_neg w1]
    refine zW_t rfl ?_
    rw [ycv_str ha.2.1]
    refine zW_Ie (c1 d) (zW_Ie dg ?_)
    rw [sDig_num na, if_neg A]
    exact zW_t rfl (zW_let (zW_eq go' ⟨rfl, rfl⟩))
/-- where a row has a label -/
theorem h_find_a {Rz : Nat → Prop} {s : Nat} {bt : List Int} (hC : CW C) (hT : HtA T H) (hG : HG B T ν H G n m fl sp lb Rz) (hz : ∀ z, z < n → ¬ Rz z) (hx : x < n) (hs : StrY B H s bt) : ∀ (r i : Nat), i + r = (sp x).2 → (∀ j, j < i → lb ((sp x).1 + j) ≠ bt) → ∃ v : Int, YL C (d + 2) 550 [zr (T 0), .inl (x : Int), zr s, .inl (i : Int)] H = some (some (some (.inl v)), H) ∧ ((v = -1 ∧ ∀ j, j < (sp x).2 → lb ((sp x).1 + j) ≠ bt) ∨ ∃ j : Nat, j < (sp x).2 ∧ v = (j : Int) ∧ lb ((sp x).1 + j) = bt) := by
  have ix := HG_x hG hx
  obtain ⟨_, _, s1, l1, l2⟩ := hG.2.2.1 x hx
  have hm5 := hG.1.2.2.2
  intro r
  induction r with
  | zero =>
    intro i hi hp
    refine ⟨-1, zW_get (yl_Types_find_p2 ?_), Or.inl ⟨rfl, fun j hj => hp j (by omega)⟩⟩
    unfold yb_Types_find_p2
    rw [ycv_T hT]
    exact zW_Ie (zc_s.trans (h_many hT ix s1 l2 (by omega))) (zW_f (by omega) (zW_rI ⟨rfl, rfl⟩))
  | succ r ih =>
    intro i hi hp
    obtain ⟨_, sA, pa1, pa2, pa3⟩ := hG.2.2.2.2.1 ((sp x).1 + i) (by omega) (fun z hz' q => absurd q (hz z hz'))
    by_cases e : lb ((sp x).1 + i) = bt
    · refine ⟨(i : Int), zW_get (yl_Types_find_p2 ?_), Or.inr ⟨i, by omega, rfl, e⟩⟩
      unfold yb_Types_find_p2
      rw [ycv_T hT]
      refine zW_Ie (zc_s.trans (h_many hT ix s1 l2 (by omega))) (zW_t (by omega) ?_)
      rw [ycv_T hT]
      refine zW_Qe (zc_s.trans (h_label hT ix s1 (by omega) (by omega))) ?_
      rw [pa1, ycv_str pa2.2.1]
      refine zW_Ie (zc_s.trans (y_equals hC pa2 hs (by omega))) ?_
      rw [if_pos e]
      exact zW_f (by decide) (zW_rI ⟨rfl, rfl⟩)
    · obtain ⟨v, e1, e2⟩ := ih (i + 1) (by omega) (fun j hj => by
        by_cases q : j = i
        · rw [q]; exact e
        · exact hp j (by omega))
      refine ⟨v, zW_get (yl_Types_find_p2 ?_), e2⟩
      unfold yb_Types_find_p2
      rw [ycv_T hT]
      refine zW_Ie (zc_s.trans (h_many hT ix s1 l2 (by omega))) (zW_t (by omega) ?_)
      rw [ycv_T hT]
      refine zW_Qe (zc_s.trans (h_label hT ix s1 (by omega) (by omega))) ?_
      rw [pa1, ycv_str pa2.2.1]
      refine zW_Ie (zc_s.trans (y_equals hC pa2 hs (by omega))) ?_
      rw [if_neg e]
      refine zW_t rfl (zW_G (by omega) (zW_let ?_))
      rw [show (i : Int) + 1 = ((i + 1 : Nat) : Int) by omega]
      exact zW_eq e1 ⟨rfl, rfl⟩
theorem h_find {Rz : Nat → Prop} {s : Nat} {bt : List Int} (hC : CW C) (hT : HtA T H) (hG : HG B T ν H G n m fl sp lb Rz) (hz : ∀ z, z < n → ¬ Rz z) (hx : x < n) (hs : StrY B H s bt) : ∃ v : Int, YL C (d + 2) 85 [zr (T 0), .inl (x : Int), zr s] H = some (some (some (.inl v)), H) ∧ ((v = -1 ∧ ∀ j, j < (sp x).2 → lb ((sp x).1 + j) ≠ bt) ∨ ∃ j : Nat, j < (sp x).2 ∧ v = (j : Int) ∧ lb ((sp x).1 + j) = bt) := by
  obtain ⟨v, e1, e2⟩ := h_find_a (d := d) hC hT hG hz hx hs (sp x).2 0 (by omega) (fun j hj => by omega)
  refine ⟨v, zW_get (yl_Types_find ?_), e2⟩
  unfold yb_Types_find
  exact zW_let (zW_eq e1 ⟨rfl, rfl⟩)
end HComp
