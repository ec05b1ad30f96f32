set_option maxRecDepth 100000
/-! STRINGBUILDERS in the House's heap (Latin1 alone) -/
theorem zbyte_fit (v : Int) : -128 ≤ zbyte v ∧ zbyte v < 128 := by
  unfold zbyte
  rw [Int8.toInt_toInt32]
  exact ⟨Int8.le_toInt _, Int8.toInt_lt _⟩
theorem zbyte_zbyte {x : Int} (hx : 0 ≤ x ∧ x ≤ 255) : zbyte (zbyte x) = zbyte x := by
  have : ∀ m : Nat, m < 256 → zbyte (zbyte m) = zbyte m := by decide +kernel
  obtain ⟨m, rfl⟩ : ∃ m : Nat, x = (m : Int) := ⟨x.toNat, by omega⟩
  exact this m (by omega)
theorem zshl_0 {n : Nat} (h : n < 2147483648) : zshlI (n : Int) 0 = n := by
  unfold zshlI i32
  rw [show (Int32.ofInt 0 &&& 31) = 0 by decide]
  rw [show Int32.ofInt (n : Int) <<< (0 : Int32) = Int32.ofInt n by simp]
  exact Int32.toInt_ofInt_of_le (by omega) (by omega)
/-- what a byte array may be, and what lies in it -/
def Byt (H : YS) (e cap : Nat) (b : List Int) : Prop := e < ynx H ∧ yK H e = 1002 ∧ yN H e = cap ∧ b.length ≤ cap ∧ (∀ k : Nat, k < b.length → yA H e k = zbyte (b.getD k 0)) ∧ (∀ k : Int, 0 ≤ k → k < cap → -128 ≤ yA H e k ∧ yA H e k < 128) ∧ ∀ c ∈ b, 0 ≤ c ∧ c ≤ 255
def SbY (H : YS) (a e cap : Nat) (b : List Int) : Prop := a < ynx H ∧ yK H a = 23 ∧ yR H 6900 a = some e ∧ yI H 6901 a = 0 ∧ yI H 6903 a = b.length ∧ a ≠ e ∧ Byt H e cap b
section YSb
variable {B P : Nat → Prop} {C : YC} {H H' : YS} {a a' e e' c s d cap : Nat} {b b' : List Int} {Q : Option (Option ZV) → YS → Prop}
theorem SbY_ex (h : SbY H a e cap b) (hx : yEx P c s H H') (hp : ¬ P a ∧ ¬ P e) : SbY H' a e cap b := by
  obtain ⟨h1, h2, h3, h4, h5, h6, g1, g2, g3, g4, g5, g6, g7⟩ := h
  have ka := hx.2.1 a h1
  have ke := hx.2.1 e g1
  have sa := hx.1 a h1 hp.1
  have se := hx.1 e g1 hp.2
  exact ⟨Nat.lt_of_lt_of_le h1 hx.2.2.1, by rw [ka.1]; exact h2, by rw [sa.2.1]; exact h3, by rw [sa.1]; exact h4, by rw [sa.1]; exact h5, h6, Nat.lt_of_lt_of_le g1 hx.2.2.1, by rw [ke.1]; exact g2, by rw [ke.2]; exact g3, g4, fun k hk => by rw [se.2.2.1]; exact g5 k hk, fun k k1 k2 => by rw [se.2.2.1]; exact g6 k k1 k2, g7⟩
theorem y_max {x y : Int} : YL C d 660 [.inl x, .inl y] H = some (some (some (.inl (if x < y then y else x))), H) := by
  refine zW_get (yl_Math_max ?_)
  unfold yb_Math_max
  exact zW_if (fun q => zW_rI ⟨by rw [if_pos q], rfl⟩) (fun q => zW_rI ⟨by rw [if_neg q], rfl⟩)
theorem y_min {x y : Int} : YL C d 547 [.inl x, .inl y] H = some (some (some (.inl (if x ≤ y then x else y))), H) := by
  refine zW_get (yl_Math_min ?_)
  unfold yb_Math_min
  exact zW_if (fun q => zW_rI ⟨by rw [if_pos q], rfl⟩) (fun q => zW_rI ⟨by rw [if_neg q], rfl⟩)
theorem y_newLength {x y z : Int} (hx : 0 ≤ x) (h : 0 < x + (if y < z then z else y) ∧ x + (if y < z then z else y) ≤ 2147483639) : YL C (d + 1) 999 [.inl x, .inl y, .inl z] H = some (some (some (.inl (x + (if y < z then z else y)))), H) := by
  refine zW_get (yl_ArraysSupport_newLength ?_)
  unfold yb_ArraysSupport_newLength
  exact zW_Ie y_max (zW_G (by omega) (zW_let (zW_t h.1 (zW_t h.2 (zW_rI ⟨rfl, rfl⟩)))))
theorem fit_all {n : Nat} {f : Int → Int} (h : ∀ k : Int, 0 ≤ k → k < n → -128 ≤ f k ∧ f k < 128) : (List.range n).all (fun i => yfitA 2 (f i)) = true := by
  rw [List.all_eq_true]
  intro i hi
  have := h i (by omega) (by have := List.mem_range.mp hi; omega)
  exact decide_eq_true this
theorem y_sbLatin (hC : CW C) (h : SbY H a e cap b) : YL C d 893 [zr a] H = some (some (some (.inl 1)), H) := by
  refine zW_get (yl_AbstractStringBuilder_isLatin1 ?_)
  unfold yb_AbstractStringBuilder_isLatin1
  exact zW_svI (zW_f (by rw [hC]; decide) (zW_gI h.2.1 rfl (zW_t h.2.2.2.1 (zW_rN rfl ⟨rfl, rfl⟩))))
/-- room for one more -/
theorem y_sbEnsure (h : SbY H a e cap b) (hc : cap < 5000000) : zW (YL C (d + 3) 892 [zr a, .inl ((b.length : Int) + 1)] H) (fun o H1 => o = some none ∧ ∃ e1 cap1, SbY H1 a e1 cap1 b ∧ b.length < cap1 ∧ cap ≤ cap1 ∧ cap1 ≤ max cap (2 * b.length + 2) ∧ (e1 = e ∨ ynx H ≤ e1) ∧ yEx (fun x => x = a) 1 (2 * (cap1 - cap)) H H1) := by
  obtain ⟨h1, h2, h3, h4, h5, h6, g1, g2, g3, g4, g5, g6, g7⟩ := h
  refine yl_AbstractStringBuilder_ensureCapacityInternal ?_
  unfold yb_AbstractStringBuilder_ensureCapacityInternal
  refine zW_gR h2 rfl ?_
  rw [h3]
  refine zW_len (by omega) (zW_gI h2 rfl ?_)
  rw [h4, g3, zshr_0 (by omega)]
  refine zW_let (zW_G (by omega) (zW_if (fun y => ?_) (fun y => ?_)))
  · exact zW_rV ⟨rfl, e, cap, ⟨h1, h2, h3, h4, h5, h6, g1, g2, g3, g4, g5, g6, g7⟩, by omega, Nat.le_refl _, by omega, Or.inl rfl, yEx_refl⟩
  · have hbl : b.length = cap := by omega
    refine zW_gR h2 rfl ?_
    rw [h3, ycv_s h2 ⟨by decide, rfl⟩]
    have e1 : YL C (d + 2) 961 [zr a, .inl ((b.length : Int) + 1)] H = some (some (some (.inl ((2 * cap + 2 : Nat) : Int))), H) := by
      refine zW_get (yl_AbstractStringBuilder_newCapacity ?_)
      unfold yb_AbstractStringBuilder_newCapacity
      refine zW_gR h2 rfl ?_
      rw [h3]
      refine zW_len (by omega) (zW_let (zW_gI h2 rfl ?_))
      rw [h4, g3, show (b.length : Int) + 1 = ((cap + 1 : Nat) : Int) by omega, zshl_0 (by omega)]
      refine zW_let (zW_G (by omega) (zW_let (zW_gI h2 rfl ?_)))
      rw [h4, show zshlI 2 0 = 2 by decide]
      have hn := y_newLength (C := C) (d := d) (H := H) (x := (cap : Int)) (y := ((cap + 1 : Nat) : Int) - (cap : Int)) (z := (cap : Int) + 2) (by omega) (by split <;> omega)
      rw [if_pos (by omega)] at hn
      refine zW_G (by omega) (zW_Ie hn (zW_let (zW_f (by omega) (zW_gI h2 rfl ?_))))
      rw [h4, show (cap : Int) + ((cap : Int) + 2) = ((2 * cap + 2 : Nat) : Int) by omega, zshr_0 (by omega)]
      exact zW_rI ⟨rfl, rfl⟩
    refine zW_Ie e1 (zW_gI h2 rfl ?_)
    rw [h4, zshl_0 (by omega)]
    -- the copy
    refine zW_Q (P := fun r H1 => r = some (ynx H) ∧ Byt H1 (ynx H) (2 * cap + 2) b ∧ yEx (fun _ => False) 1 (2 * cap + 2) H H1 ∧ ynx H1 = ynx H + 1) (T := fun _ => False) (zW_c ?_) ?_ (fun _ q => q.elim)
    · refine yl_Arrays_copyOf_3 ?_
      unfold yb_Arrays_copyOf_3
      refine zW_len (by omega) (zW_f (by omega) (zW_na (by omega) (zW_let ?_)))
      have hne : ¬ e = ynx H := by omega
      generalize hH1 : ymk H (1000 + 2) ((2 * cap + 2 : Nat) : Int) ((2 * cap + 2 : Nat) : Int).toNat = H1
      have k1 : yK H1 e = 1002 := by rw [← hH1, ymk_K, if_neg hne]; exact g2
      have n1 : yN H1 e = cap := by rw [← hH1, ymk_N, if_neg hne]; exact g3
      have k2 : yK H1 (ynx H) = 1002 := by rw [← hH1, ymk_K, if_pos rfl]
      have n2 : yN H1 (ynx H) = ((2 * cap + 2 : Nat) : Int) := by rw [← hH1, ymk_N, if_pos rfl]
      have a1 : ∀ j, yA H1 e j = yA H e j := fun j => by rw [← hH1, ymk_A, if_neg hne]
      have a2 : ∀ j, yA H1 (ynx H) j = 0 := fun j => by rw [← hH1, ymk_A, if_pos rfl]
      have x1 : ynx H1 = ynx H + 1 := by rw [← hH1]; rfl
      have ex1 : yEx (fun _ => False) 1 (2 * cap + 2) H H1 := by
        rw [← hH1]
        exact yEx_mk (c := 0) (s := 0) yEx_refl |> fun q => yEx_mono q (fun _ _ z => z) (by omega) (by omega)
      refine zW_len (by omega) ?_
      rw [n1]
      have hm := y_min (C := C) (d := d + 1) (H := H1) (x := (cap : Int)) (y := ((2 * cap + 2 : Nat) : Int))
      rw [if_pos (by omega)] at hm
      refine zW_Ie hm ?_
      unfold yac
      dsimp only
      refine zW_t (by omega) (zW_t ⟨by omega, by omega, by rw [k1, k2], ?_⟩ (zW_rQ ⟨rfl, ?_, ?_, x1⟩))
      · rw [k2]
        exact fit_all (n := cap) (f := fun i => yA H1 e (0 + i)) (fun k q1 q2 => by rw [a1, Int.zero_add]; exact g6 k q1 q2)
      · have cp : ∀ j, yA (ycpy H1 e 0 (ynx H) 0 cap) (ynx H) j = if 0 ≤ j ∧ j < cap then yA H e j else 0 := fun j => by
          show (if ynx H = ynx H ∧ 0 ≤ j ∧ j < 0 + (cap : Int) then yA H1 e (0 + (j - 0)) else yA H1 (ynx H) j) = _
          by_cases q : 0 ≤ j ∧ j < cap
          · rw [if_pos ⟨rfl, q.1, by omega⟩, if_pos q, a1, show 0 + (j - 0) = j by omega]
          · rw [if_neg (fun z => q ⟨z.2.1, by omega⟩), if_neg q, a2]
        refine ⟨?_, k2, n2, by omega, fun k hk => ?_, fun k q1 q2 => ?_, g7⟩
        · show ynx H < ynx H1; omega
        · rw [cp, if_pos (by omega)]; exact g5 k hk
        · rw [cp]
          split
          · next q => exact g6 k q.1 q.2
          · decide
      · refine ⟨fun x hx hp => ?_, ex1.2⟩
        have := ex1.1 x hx hp
        refine ⟨this.1, this.2.1, fun j => ?_, this.2.2.2⟩
        show (if x = ynx H ∧ _ then _ else yA H1 x j) = _
        rw [if_neg (fun q => by omega)]
        exact this.2.2.1 j
    · rintro r H1 ⟨rfl, q1, q2, q3⟩
      have ka : yK H1 a = 23 := by rw [(q2.2.1 a h1).1]; exact h2
      have sa := q2.1 a h1 (fun z => z)
      refine zW_pR ka (by decide) (zW_rV ⟨rfl, ynx H, 2 * cap + 2, ⟨by show a < ynx H1; omega, ka, ?_, by show yI H1 6901 a = 0; rw [sa.1]; exact h4, by show yI H1 6903 a = _; rw [sa.1]; exact h5, by omega, q1⟩, by omega, by omega, by omega, Or.inr (Nat.le_refl _), ?_⟩)
      · show (if 6900 = 6900 ∧ a = a then some (ynx H) else _) = _
        rw [if_pos ⟨rfl, rfl⟩]
      · exact yEx_putR (yEx_mono q2 (fun _ _ z => z.elim) (Nat.le_refl _) (by omega)) (fun _ => rfl)
theorem y_sbAppend {v : Int} (hC : CW C) (h : SbY H a e cap b) (hv : 0 ≤ v ∧ v ≤ 255) (hc : cap < 5000000) : zW (YL C (d + 5) 512 [zr a, .inl v] H) (fun o H1 => o = some (some (.inr (.inr (some a)))) ∧ ∃ e1 cap1, SbY H1 a e1 cap1 (b ++ [v]) ∧ cap ≤ cap1 ∧ cap1 ≤ max cap (2 * b.length + 2) ∧ (e1 = e ∨ ynx H ≤ e1) ∧ yEx (fun x => x = a ∨ x = e) 1 (2 * (cap1 - cap)) H H1) := by
  refine yl_StringBuilder_append ?_
  unfold yb_StringBuilder_append
  rw [ycu_s h.2.1 (by decide)]
  refine zW_Q (P := fun r H1 => r = some a ∧ ∃ e1 cap1, SbY H1 a e1 cap1 (b ++ [v]) ∧ cap ≤ cap1 ∧ cap1 ≤ max cap (2 * b.length + 2) ∧ (e1 = e ∨ ynx H ≤ e1) ∧ yEx (fun x => x = a ∨ x = e) 1 (2 * (cap1 - cap)) H H1) (T := fun _ => False) (zW_c ?_) (fun r H1 q => zW_rQ ⟨rfl, q.2⟩) (fun _ q => q.elim)
  refine yl_AbstractStringBuilder_append ?_
  unfold yb_AbstractStringBuilder_append
  have hbl := h.2.2.2.2.2.2.2.2.2.1
  refine zW_gI h.2.1 rfl ?_
  rw [h.2.2.2.2.1, ycv_s h.2.1 ⟨by decide, rfl⟩]
  refine zW_G (by omega) (zW_V (P := fun H1 => ∃ e1 cap1, SbY H1 a e1 cap1 b ∧ b.length < cap1 ∧ cap ≤ cap1 ∧ cap1 ≤ max cap (2 * b.length + 2) ∧ (e1 = e ∨ ynx H ≤ e1) ∧ yEx (fun x => x = a) 1 (2 * (cap1 - cap)) H H1) (T := fun _ => False) (zW_c (zW_mono (y_sbEnsure h hc) (fun o H1 q => by rw [q.1]; exact q.2))) ?_ (fun _ q => q.elim))
  rintro H1 ⟨e1, cap1, k1, k2, k3, k4, k5, k6⟩
  rw [ycv_s k1.2.1 ⟨by decide, rfl⟩]
  have ce : YL C (d + 3) 896 [.inl v] H1 = some (some (some (.inl 1)), H1) := by
    refine zW_get (yl_StringLatin1_canEncode ?_)
    unfold yb_StringLatin1_canEncode
    exact zW_t hv.2 (zW_rN rfl ⟨rfl, rfl⟩)
  refine zW_Ie (y_sbLatin hC k1) (zW_f (by decide) (zW_Ie ce (zW_f (by decide) (zW_gR k1.2.1 rfl ?_))))
  obtain ⟨h1, h2, h3, h4, h5, h6, g1, g2, g3, g4, g5, g6, g7⟩ := k1
  rw [h3]
  refine zW_gI h2 rfl ?_
  rw [h5]
  refine zW_G (by omega) (zW_pI h2 (by decide) rfl ?_)
  refine zW_yst (by show yK H1 e1 = 1002; exact g2) rfl (by show 0 ≤ (b.length : Int) ∧ (b.length : Int) < yN H1 e1; omega) (zW_rQ ⟨rfl, e1, cap1, ⟨h1, h2, h3, ?_, ?_, h6, g1, g2, g3, ?_, fun k hk => ?_, fun k q1 q2 => ?_, ?_⟩, k3, k4, k5, ?_⟩)
  · have e : ∀ w, yI (yput H1 6903 a w) 6901 a = 0 := fun w => (yput_f (by decide)).trans h4
    exact e 0
  · show (if 6903 = 6903 ∧ a = a then _ else _) = _
    rw [if_pos ⟨rfl, rfl⟩, List.length_append]
    show _ = ((b.length + 1 : Nat) : Int)
    omega
  · rw [List.length_append]
    exact k2
  · rw [List.length_append] at hk
    have hk : k < b.length + 1 := hk
    show (if e1 = e1 ∧ (k : Int) = (b.length : Int) then ynar 1002 (zbyte v) else yA H1 e1 k) = _
    by_cases q : k = b.length
    · rw [if_pos ⟨rfl, by omega⟩, q, List.getD_eq_getElem?_getD, List.getElem?_append_right (Nat.le_refl _), Nat.sub_self]
      show zbyte (zbyte v) = zbyte v
      exact zbyte_zbyte hv
    · rw [if_neg (fun z => q (by omega)), g5 k (by omega), List.getD_eq_getElem?_getD, List.getD_eq_getElem?_getD, List.getElem?_append_left (by omega)]
  · show -128 ≤ (if e1 = e1 ∧ k = (b.length : Int) then ynar 1002 (zbyte v) else yA H1 e1 k) ∧ (if e1 = e1 ∧ k = (b.length : Int) then ynar 1002 (zbyte v) else yA H1 e1 k) < 128
    split
    · exact zbyte_fit _
    · exact g6 k q1 q2
  · intro w hw
    rcases List.mem_append.mp hw with q | q
    · exact g7 w q
    · rw [List.mem_singleton.mp q]; exact hv
  · refine yEx_set (yEx_put (yEx_mono k6 (fun _ _ z => Or.inl z) (Nat.le_refl _) (Nat.le_refl _)) (fun _ => Or.inl rfl)) (fun q => ?_)
    rcases k5 with z | z
    · exact Or.inr z
    · omega
/-- a new one -/
theorem y_sbInit {n : Nat} (hC : CW C) (ha : a < ynx H) (hk : yK H a = 23) (hI : yI H 6901 a = 0) (hc : yI H 6903 a = 0) (hn : n ≤ 1000000) : zW (YL C (d + 1) 641 [zr a, .inl (n : Int)] H) (fun o H1 => o = some none ∧ SbY H1 a (ynx H) n [] ∧ yEx (fun x => x = a) 1 n H H1) := by
  refine yl_StringBuilder_init ?_
  unfold yb_StringBuilder_init
  rw [ycs_s]
  refine zW_V (P := fun H1 => SbY H1 a (ynx H) n [] ∧ yEx (fun x => x = a) 1 n H H1) (T := fun _ => False) (zW_c ?_) (fun H1 q => zW_rV ⟨rfl, q⟩) (fun _ q => q.elim)
  refine yl_AbstractStringBuilder_init ?_
  unfold yb_AbstractStringBuilder_init
  have hne : ¬ a = ynx H := by omega
  refine zW_nn (zW_svI (zW_f (by rw [hC]; decide) (zW_na (by omega) ?_)))
  have k1 : yK (ymk H (1000 + 2) (n : Int) (n : Int).toNat) a = 23 := by rw [ymk_K, if_neg hne]; exact hk
  refine zW_pR k1 (by decide) (zW_pI k1 (by decide) (by decide) (zW_rV ⟨⟨?_, k1, ?_, ?_, ?_, by omega, ?_, ?_, ?_, by show 0 ≤ n; omega, fun k hk => absurd hk (Nat.not_lt_zero k), fun k q1 q2 => ?_, fun c hc => nomatch hc⟩, ?_⟩))
  · show a < ynx H + 1; omega
  · exact yputR_at
  · exact yput_at
  · have e : yI (ymk H (1000 + 2) (n : Int) (n : Int).toNat) 6903 a = 0 := by rw [ymk_I, if_neg hne]; exact hc
    exact e
  · show ynx H < ynx H + 1; omega
  · show (if ynx H = ynx H then 1000 + 2 else _) = 1002; rw [if_pos rfl]
  · show (if ynx H = ynx H then (n : Int) else _) = _; rw [if_pos rfl]
  · have e : yA (ymk H (1000 + 2) (n : Int) (n : Int).toNat) (ynx H) k = 0 := by rw [ymk_A, if_pos rfl]
    show -128 ≤ yA (ymk H (1000 + 2) (n : Int) (n : Int).toNat) (ynx H) k ∧ yA (ymk H (1000 + 2) (n : Int) (n : Int).toNat) (ynx H) k < 128
    rw [e]
    decide
  · refine yEx_put (yEx_putR ?_ (fun _ => rfl)) (fun _ => rfl)
    exact yEx_mono (yEx_mk (c := 0) (s := 0) yEx_refl) (fun _ _ z => z) (by omega) (by omega)
theorem y_sbLength (h : SbY H a e cap b) : YL C (d + 1) 924 [zr a] H = some (some (some (.inl b.length)), H) := by
  refine zW_get (yl_StringBuilder_length ?_)
  unfold yb_StringBuilder_length
  rw [ycu_s h.2.1 (by decide)]
  have e1 : YL C d 974 [zr a] H = some (some (some (.inl b.length)), H) := by
    refine zW_get (yl_AbstractStringBuilder_length ?_)
    unfold yb_AbstractStringBuilder_length
    exact zW_gI h.2.1 rfl (zW_rI ⟨by rw [h.2.2.2.2.1], rfl⟩)
  exact zW_Ie e1 (zW_rI ⟨rfl, rfl⟩)
/-- a copy of the first bytes -/
theorem y_copyRange (h : Byt H e cap b) (hc : cap ≤ 10000000) : zW (YL C (d + 2) 981 [zr e, .inl 0, .inl b.length] H) (fun o H1 => o = some (some (.inr (.inr (some (ynx H))))) ∧ ByY H1 (ynx H) b ∧ yK H1 (ynx H) = 1002 ∧ yEx (fun _ => False) 1 b.length H H1 ∧ ynx H1 = ynx H + 1) := by
  obtain ⟨g1, g2, g3, g4, g5, g6, g7⟩ := h
  have hne : ¬ e = ynx H := by omega
  have fin : ∀ (n : Nat) (H1 : YS), n = b.length → (∀ x, x < ynx H → ySame H H1 x) → yK H1 = yK (ymk H 1002 n n) → yN H1 = yN (ymk H 1002 n n) → ynx H1 = ynx H + 1 → ysl H1 = ysl H + n → (∀ j : Int, 0 ≤ j → j < n → yA H1 (ynx H) j = yA H e j) → ByY H1 (ynx H) b ∧ yK H1 (ynx H) = 1002 ∧ yEx (fun _ => False) 1 b.length H H1 ∧ ynx H1 = ynx H + 1 := by
    intro n H1 hn q1 q2 q3 q4 q5 q6
    have k1 : yK H1 (ynx H) = 1002 := by rw [q2, ymk_K, if_pos rfl]
    have n1 : yN H1 (ynx H) = n := by rw [q3, ymk_N, if_pos rfl]
    refine ⟨⟨by omega, Or.inl k1, by omega, fun k hk => by rw [q6 k (by omega) (by omega)]; exact g5 k hk, g7⟩, k1, ⟨fun x hx _ => q1 x hx, fun x hx => ?_, by omega, by omega, by omega⟩, q4⟩
    rw [q2, q3, ymk_K, ymk_N, if_neg (by omega), if_neg (by omega)]
    exact ⟨rfl, rfl⟩
  have same : ∀ (kd : Nat) (v : Int) (n x : Nat), x < ynx H → ySame H (ymk H kd v n) x := fun kd v n x hx => by
    have hx : ¬ x = ynx H := by omega
    exact ⟨fun f => by rw [ymk_I, if_neg hx], fun f => by rw [ymk_R, if_neg hx], fun f => by rw [ymk_A, if_neg hx], fun f => by rw [ymk_B, if_neg hx]⟩
  refine yl_Arrays_copyOfRange ?_
  unfold yb_Arrays_copyOfRange
  refine zW_t rfl (zW_len (by omega) (zW_if (fun y => ?_) (fun y => ?_)))
  · have y : b.length = cap := by omega
    unfold ycln
    dsimp only
    refine zW_t ⟨g2, ?_⟩ ?_
    · rw [g3]; exact fit_all g6
    · rw [g3, show ((cap : Int)).toNat = cap from Int.toNat_natCast cap]
      refine zW_cc (kd := 1002) (by show (if ynx H = ynx H then 1002 else _) = 1002; rw [if_pos rfl]) (by decide +kernel) (zW_rQ ⟨rfl, fin cap _ (by omega) (fun x hx => ?_) rfl rfl rfl rfl (fun j q1 q2 => ?_)⟩)
      · have := same 1002 cap cap x hx
        refine ⟨this.1, this.2.1, fun j => ?_, this.2.2.2⟩
        show (if x = ynx H then _ else yA (ymk H 1002 cap cap) x j) = _
        rw [if_neg (by omega)]
        exact this.2.2.1 j
      · show (if ynx H = ynx H then yA (ymk H 1002 cap cap) e j else _) = _
        rw [if_pos rfl, ymk_A, if_neg hne]
  · refine zW_Q (P := fun r H1 => r = some (ynx H) ∧ ByY H1 (ynx H) b ∧ yK H1 (ynx H) = 1002 ∧ yEx (fun _ => False) 1 b.length H H1 ∧ ynx H1 = ynx H + 1) (T := fun _ => False) (zW_c ?_) (fun r H1 q => zW_rQ ⟨by rw [q.1], q.2⟩) (fun _ q => q.elim)
    refine yl_Arrays_copyOfRangeByte ?_
    unfold yb_Arrays_copyOfRangeByte
    have e1 : YL C d 1021 [.inl 0, .inl b.length] H = some (some none, H) := by
      refine zW_get (yl_Arrays_checkLength ?_)
      unfold yb_Arrays_checkLength
      exact zW_f (by omega) (zW_rV ⟨rfl, rfl⟩)
    refine zW_Ve e1 (zW_G (by omega) (zW_let (zW_na (by omega) (zW_let ?_))))
    rw [show (b.length : Int) - 0 = b.length by omega, show ((b.length : Int)).toNat = b.length from Int.toNat_natCast _]
    have k1 : yK (ymk H (1000 + 2) (b.length : Int) b.length) e = 1002 := by rw [ymk_K, if_neg hne]; exact g2
    have n1 : yN (ymk H (1000 + 2) (b.length : Int) b.length) e = cap := by rw [ymk_N, if_neg hne]; exact g3
    have k2 : yK (ymk H (1000 + 2) (b.length : Int) b.length) (ynx H) = 1002 := by rw [ymk_K, if_pos rfl]
    have n2 : yN (ymk H (1000 + 2) (b.length : Int) b.length) (ynx H) = b.length := by rw [ymk_N, if_pos rfl]
    have a1 : ∀ j, yA (ymk H (1000 + 2) (b.length : Int) b.length) e j = yA H e j := fun j => by rw [ymk_A, if_neg hne]
    refine zW_len (by omega) ?_
    rw [n1]
    have hm := y_min (C := C) (d := d) (H := ymk H (1000 + 2) (b.length : Int) b.length) (x := (cap : Int) - 0) (y := (b.length : Int))
    rw [if_neg (by omega)] at hm
    refine zW_G (by omega) (zW_Ie hm ?_)
    unfold yac
    dsimp only
    refine zW_t (by omega) (zW_t ⟨by omega, by omega, by rw [k1, k2], ?_⟩ (zW_rQ ⟨rfl, fin b.length _ rfl (fun x hx => ?_) rfl rfl rfl rfl (fun j q1 q2 => ?_)⟩))
    · rw [k2]
      exact fit_all (n := b.length) (f := fun i => yA (ymk H (1000 + 2) (b.length : Int) b.length) e (0 + i)) (fun k q1 q2 => by rw [a1, Int.zero_add]; exact g6 k q1 (by omega))
    · have := same (1000 + 2) b.length b.length x hx
      refine ⟨this.1, this.2.1, fun j => ?_, this.2.2.2⟩
      show (if x = ynx H ∧ _ then _ else yA (ymk H (1000 + 2) (b.length : Int) b.length) x j) = _
      rw [if_neg (fun q => by omega)]
      exact this.2.2.1 j
    · show (if ynx H = ynx H ∧ 0 ≤ j ∧ j < 0 + (b.length : Int) then yA (ymk H (1000 + 2) (b.length : Int) b.length) e (0 + (j - 0)) else _) = _
      rw [if_pos ⟨rfl, q1, by omega⟩, a1, show 0 + (j - 0) = j by omega]
/-- what it has, as a String -/
theorem y_toString (hC : CW C) (hB : ∀ x, B x → x < ynx H) (h : SbY H a e cap b) (hc : cap ≤ 10000000) : zW (YL C (d + 5) 642 [zr a] H) (fun o H1 => o = some (some (.inr (.inr (some (ynx H))))) ∧ StrY B H1 (ynx H) b ∧ yEx (fun _ => False) 2 (4 + b.length) H H1 ∧ ynx H1 = ynx H + 2) := by
  refine yl_StringBuilder_toString ?_
  unfold yb_StringBuilder_toString
  refine zW_new ?_
  rw [if_neg (by decide)]
  have ex0 : yEx (fun _ => False) 1 4 H (ymk H 21 0 4) := yEx_mono (yEx_mk (c := 0) (s := 0) yEx_refl) (fun _ _ z => z) (by omega) (by omega)
  generalize hH0 : ymk H 21 0 4 = H0
  rw [hH0] at ex0
  have kr : yK H0 (ynx H) = 21 := by rw [← hH0, ymk_K, if_pos rfl]
  have ir : yI H0 6301 (ynx H) = 0 := by rw [← hH0, ymk_I, if_pos rfl]
  have x0 : ynx H0 = ynx H + 1 := by rw [← hH0]; rfl
  have h0 : SbY H0 a e cap b := SbY_ex h ex0 ⟨fun z => z, fun z => z⟩
  rw [ycs_s]
  refine zW_V (P := fun H1 => StrY B H1 (ynx H) b ∧ yEx (fun _ => False) 2 (4 + b.length) H H1 ∧ ynx H1 = ynx H + 2) (T := fun _ => False) (zW_c ?_) (fun H1 q => zW_rQ ⟨rfl, q⟩) (fun _ q => q.elim)
  refine yl_String_init ?_
  unfold yb_String_init
  rw [ycs_s]
  refine zW_V (P := fun H1 => StrY B H1 (ynx H) b ∧ yEx (fun _ => False) 2 (4 + b.length) H H1 ∧ ynx H1 = ynx H + 2) (T := fun _ => False) (zW_c ?_) (fun H1 q => zW_rV q) (fun _ q => q.elim)
  refine yl_String_init_2 ?_
  unfold yb_String_init_2
  rw [ycv_s h0.2.1 ⟨by decide, rfl⟩]
  have e1 : YL C (d + 2) 977 [zr a] H0 = some (some (some (.inr (.inr (some e)))), H0) := by
    refine zW_get (yl_AbstractStringBuilder_getValue ?_)
    unfold yb_AbstractStringBuilder_getValue
    exact zW_gR h0.2.1 rfl (zW_rQ ⟨by rw [h0.2.2.1], rfl⟩)
  refine zW_nn (zW_Qe e1 (zW_let ?_))
  rw [ycv_s h0.2.1 ⟨by decide, rfl⟩]
  refine zW_Ie (y_sbLength h0) (zW_let ?_)
  rw [ycv_s h0.2.1 ⟨by decide, rfl⟩]
  refine zW_Ie (y_sbLatin hC h0) (zW_f (by decide) (zW_pI kr (by decide) (by decide) ?_))
  have hby : Byt (yput H0 6301 (ynx H) 0) e cap b := h0.2.2.2.2.2.2
  refine zW_Q (P := fun r H1 => r = some (ynx H + 1) ∧ ByY H1 (ynx H + 1) b ∧ yEx (fun _ => False) 1 b.length (yput H0 6301 (ynx H) 0) H1 ∧ ynx H1 = ynx H + 2) (T := fun _ => False) (zW_c (zW_mono (y_copyRange hby hc) (fun o H1 q => ?_))) ?_ (fun _ q => q.elim)
  · have xx : ynx (yput H0 6301 (ynx H) 0) = ynx H + 1 := x0
    rw [xx] at q
    obtain ⟨q1, q2, q3, q4, q5⟩ := q
    rw [q1]
    exact ⟨rfl, q2, q4, by omega⟩
  · rintro r H1 ⟨rfl, q2, q4, q5⟩
    have lt : ynx H < ynx (yput H0 6301 (ynx H) 0) := by show ynx H < ynx H0; omega
    have k1 : yK H1 (ynx H) = 21 := (q4.2.1 _ lt).1.trans kr
    have i1 : yI H1 6301 (ynx H) = 0 := ((q4.1 _ lt (fun z => z)).1 6301).trans yput_at
    have exA : yEx (fun _ => False) 1 4 H (yput H0 6301 (ynx H) 0) := yEx_put ex0 (fun q => by omega)
    refine zW_pR k1 (by decide) (zW_rV ⟨⟨by show ynx H < ynx H1; omega, Or.inl k1, i1, ynx H + 1, yputR_at, fun q => by have := hB _ q; omega, q2⟩, ?_, q5⟩)
    exact yEx_putR (yEx_mono (yEx_trans exA q4 (fun _ _ z => z)) (fun _ _ z => z) (by omega) (by omega)) (fun q => by omega)
end YSb
