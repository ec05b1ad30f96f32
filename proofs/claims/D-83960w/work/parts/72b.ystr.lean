set_option maxRecDepth 100000
/-! STRINGS in the House's heap -/
theorem zbyte_inj {x y : Int} (hx : 0 ≤ x ∧ x ≤ 255) (hy : 0 ≤ y ∧ y ≤ 255) (h : zbyte x = zbyte y) : x = y := by
  obtain ⟨m, rfl⟩ : ∃ m : Nat, x = (m : Int) := ⟨x.toNat, by omega⟩
  obtain ⟨n, rfl⟩ : ∃ n : Nat, y = (n : Int) := ⟨y.toNat, by omega⟩
  rw [← zbyte_255 m (by omega), ← zbyte_255 n (by omega), h]
theorem zchar_in : ∀ b : Nat, b < 256 → zchar b = b := by decide +kernel
theorem zchar_byte {x : Int} (hx : 0 ≤ x ∧ x ≤ 255) : zchar (zandI (zbyte x) 255) = x := by
  obtain ⟨m, rfl⟩ : ∃ m : Nat, x = (m : Int) := ⟨x.toNat, by omega⟩
  rw [zbyte_255 m (by omega)]
  exact zchar_in m (by omega)
abbrev zr (a : Nat) : ZV := .inr (.inr (some a))
/-- statics -/
def CW (C : YC) : Prop := C.2.1 4 = 1
/-- bytes of an array -/
def ByY (H : YS) (e : Nat) (b : List Int) : Prop := e < ynx H ∧ (yK H e = 1002 ∨ yK H e = 3002) ∧ yN H e = b.length ∧ (∀ k : Nat, k < b.length → yA H e k = zbyte (b.getD k 0)) ∧ ∀ c ∈ b, 0 ≤ c ∧ c ≤ 255
/-- a String; its bytes lie in none of the arrays B that are written again -/
def StrY (B : Nat → Prop) (H : YS) (a : Nat) (b : List Int) : Prop := a < ynx H ∧ (yK H a = 21 ∨ yK H a = 2021) ∧ yI H 6301 a = 0 ∧ ∃ e, yR H 6300 a = some e ∧ ¬ B e ∧ ByY H e b
/-- what is written is no String and no String's bytes -/
def PN (B P : Nat → Prop) (H : YS) : Prop := ∀ x, P x → x < ynx H → yK H x ≠ 21 ∧ yK H x ≠ 2021 ∧ yK H x ≠ 3002 ∧ (yK H x = 1002 → B x)
section YStr
variable {B P : Nat → Prop} {C : YC} {H H' : YS} {a a' e e' c s d : Nat} {b b' : List Int} {Q : Option (Option ZV) → YS → Prop}
theorem getD_in {b : List Int} (h : ∀ c ∈ b, 0 ≤ c ∧ c ≤ 255) (k : Nat) : 0 ≤ b.getD k 0 ∧ b.getD k 0 ≤ 255 := by
  rw [List.getD_eq_getElem?_getD]
  cases e : b[k]? with
  | none => decide
  | some v => exact h v (List.mem_of_getElem? e)
theorem StrY_ex (h : StrY B H a b) (hx : yEx P c s H H') (hp : PN B P H) : StrY B H' a b := by
  obtain ⟨h1, h2, h3, e, h4, h5, h6, h7, h8, h9, h10⟩ := h
  have ka := hx.2.1 a h1
  have ke := hx.2.1 e h6
  have sa := hx.1 a h1 (fun q => by have := hp a q h1; omega)
  have se := hx.1 e h6 (fun q => by have := hp e q h6; exact h5 (this.2.2.2 (by omega)))
  exact ⟨Nat.lt_of_lt_of_le h1 hx.2.2.1, by rw [ka.1]; exact h2, by rw [sa.1]; exact h3, e, by rw [sa.2.1]; exact h4, h5, Nat.lt_of_lt_of_le h6 hx.2.2.1, by rw [ke.1]; exact h7, by rw [ke.2]; exact h8, fun k hk => by rw [se.2.2.1]; exact h9 k hk, h10⟩
theorem y_isLatin1 (hC : CW C) (h : StrY B H a b) : YL C d 775 [zr a] H = some (some (some (.inl 1)), H) := by
  refine zW_get (yl_String_isLatin1 ?_)
  unfold yb_String_isLatin1
  refine zW_svI (zW_f (by rw [hC]; decide) ?_)
  rcases h.2.1 with k | k
  · exact zW_gI k rfl (zW_t h.2.2.1 (zW_rN rfl ⟨rfl, rfl⟩))
  · exact zW_gI k rfl (zW_t h.2.2.1 (zW_rN rfl ⟨rfl, rfl⟩))
theorem y_coder (hC : CW C) (h : StrY B H a b) : YL C d 779 [zr a] H = some (some (some (.inl 0)), H) := by
  refine zW_get (yl_String_coder ?_)
  unfold yb_String_coder
  refine zW_svI (zW_f (by rw [hC]; decide) ?_)
  rcases h.2.1 with k | k
  · exact zW_gI k rfl (zW_rN (by rw [h.2.2.1]; rfl) ⟨by rw [h.2.2.1], rfl⟩)
  · exact zW_gI k rfl (zW_rN (by rw [h.2.2.1]; rfl) ⟨by rw [h.2.2.1], rfl⟩)
/-- a call on a String -/
theorem ycv_str {R : ZC YS} {tag : Nat} {as : List ZV} (h : yK H a = 21 ∨ yK H a = 2021) : ycv R d [(21, tag)] (some a) as H = zc R d tag (.inr (.inr (some a)) :: as) H := by
  rcases h with k | k
  · exact ycv_s k ⟨by decide, rfl⟩
  · exact ycv_s k ⟨by decide, rfl⟩
theorem zW_gRs {k : Option Nat → ZR YS} (h : yK H a = 21 ∨ yK H a = 2021) (hk : zW (k (yR H 6300 a)) Q) : zW (ygR 6300 (some a) H k) Q := by
  rcases h with q | q
  · exact zW_gR q rfl hk
  · exact zW_gR q rfl hk
theorem zW_aIb {k : Int → ZR YS} {j : Int} (h : yK H e = 1002 ∨ yK H e = 3002) (hj : 0 ≤ j ∧ j < yN H e) (hk : zW (k (yA H e j)) Q) : zW (yaI 2 (some e) j H k) Q := by
  rcases h with q | q
  · exact zW_aI q rfl hj hk
  · exact zW_aI q rfl hj hk
theorem zshr_0 {n : Nat} (h : n < 2147483648) : zshrI (n : Int) 0 = n := by
  unfold zshrI i32
  rw [show (Int32.ofInt 0 &&& 31) = 0 by decide]
  rw [show Int32.ofInt (n : Int) >>> (0 : Int32) = Int32.ofInt n by simp]
  exact Int32.toInt_ofInt_of_le (by omega) (by omega)
theorem y_length (hC : CW C) (h : StrY B H a b) (hl : b.length < 2147483648) : YL C (d + 1) 539 [zr a] H = some (some (some (.inl b.length)), H) := by
  obtain ⟨e, h4, h5, h6, h7, h8, h9, h10⟩ := h.2.2.2
  refine zW_get (yl_String_length ?_)
  unfold yb_String_length
  refine zW_gRs h.2.1 ?_
  rw [h4]
  refine zW_len (by omega) ?_
  rw [ycv_str h.2.1, h8]
  exact zW_Ie (y_coder hC h) (zW_rI ⟨by rw [zshr_0 hl], rfl⟩)
theorem y_checkIndex {i n : Int} {x : Option Nat} (h : 0 ≤ i ∧ i < n) : YL C d 901 [.inl i, .inl n, .inr (.inr x)] H = some (some (some (.inl i)), H) := by
  refine zW_get (yl_Preconditions_checkIndex ?_)
  unfold yb_Preconditions_checkIndex
  exact zW_f (by omega) (zW_t h.2 (zW_rI ⟨rfl, rfl⟩))
theorem y_strIndex {i n : Int} (h : 0 ≤ i ∧ i < n) : YL C (d + 1) 906 [.inl i, .inl n] H = some (some none, H) := by
  refine zW_get (yl_String_checkIndex ?_)
  unfold yb_String_checkIndex
  exact zW_svR (zW_Ie (y_checkIndex h) (zW_rV ⟨rfl, rfl⟩))
theorem y_charAt {k : Nat} (hC : CW C) (h : StrY B H a b) (hk : k < b.length) : YL C (d + 3) 537 [zr a, .inl k] H = some (some (some (.inl (b.getD k 0))), H) := by
  obtain ⟨e, h4, h5, h6, h7, h8, h9, h10⟩ := h.2.2.2
  have hin := getD_in h10 k
  have e1 : YL C (d + 2) 777 [zr e, .inl k] H = some (some (some (.inl (b.getD k 0))), H) := by
    refine zW_get (yl_StringLatin1_charAt ?_)
    unfold yb_StringLatin1_charAt
    refine zW_len (by omega) (zW_Ve (y_strIndex (by omega)) (zW_aIb h7 (by omega) ?_))
    rw [h9 k hk, zchar_byte hin]
    exact zW_rN (by show decide _ = true; exact decide_eq_true (by omega)) ⟨rfl, rfl⟩
  refine zW_get (yl_String_charAt ?_)
  unfold yb_String_charAt
  rw [ycv_str h.2.1]
  refine zW_Ie (y_isLatin1 hC h) (zW_f (by decide) (zW_gRs h.2.1 ?_))
  rw [h4]
  exact zW_Ie e1 (zW_rN (by show decide _ = true; exact decide_eq_true (by omega)) ⟨rfl, rfl⟩)
/-- bytes alike -/
theorem y_bytesEq (h : ByY H e b) (h' : ByY H e' b') (hl : b.length < 2147483647) : YL C d 915 [zr e, zr e'] H = some (some (some (.inl (if b = b' then 1 else 0))), H) := by
  obtain ⟨h6, h7, h8, h9, h10⟩ := h
  obtain ⟨g6, g7, g8, g9, g10⟩ := h'
  refine zW_get (yl_StringLatin1_equals ?_)
  unfold yb_StringLatin1_equals
  refine zW_len (by omega) (zW_len (by omega) (zW_if (fun y => zW_let ?_) (fun y => ?_)))
  · have hlen : b.length = b'.length := by omega
    have loop : ∀ n k : Nat, b.length < n + k → k ≤ b.length → (∀ j, j < k → b.getD j 0 = b'.getD j 0) → zW (YL C d 971 [zr e, zr e', .inl (k : Int)] H) (fun o S' => o = some (some (.inl (if b = b' then 1 else 0))) ∧ S' = H) := by
      intro n
      induction n with
      | zero => intro k q1 q2; omega
      | succ n ih =>
        intro k q1 q2 q3
        refine yl_StringLatin1_equals_p9 ?_
        unfold yb_StringLatin1_equals_p9
        refine zW_len (by omega) (zW_if (fun z => zW_aIb h7 (by omega) (zW_aIb g7 (by omega) ?_)) (fun z => ?_))
        · rw [h9 k (by omega), g9 k (by omega)]
          refine zW_if (fun z1 => zW_G (by omega) (zW_let ?_)) (fun z1 => ?_)
          · rw [show (k : Int) + 1 = ((k + 1 : Nat) : Int) by omega]
            refine ih (k + 1) (by omega) (by omega) (fun j hj => ?_)
            by_cases q : j = k
            · rw [q]; exact zbyte_inj (getD_in h10 k) (getD_in g10 k) z1
            · exact q3 j (by omega)
          · refine zW_rN rfl ⟨?_, rfl⟩
            rw [if_neg]
            rintro rfl
            exact z1 rfl
        · refine zW_rN rfl ⟨?_, rfl⟩
          rw [if_pos]
          refine List.ext_getElem hlen (fun j j1 j2 => ?_)
          have := q3 j (by omega)
          rw [List.getD_eq_getElem?_getD, List.getD_eq_getElem?_getD, List.getElem?_eq_getElem j1, List.getElem?_eq_getElem j2] at this
          exact this
    exact loop (b.length + 1) 0 (by omega) (by omega) (fun j hj => by omega)
  · refine zW_rN rfl ⟨?_, rfl⟩
    rw [if_neg]
    rintro rfl
    exact y (by omega)
theorem y_equals (hC : CW C) (h : StrY B H a b) (h' : StrY B H a' b') (hl : b.length < 2147483647) : YL C (d + 1) 576 [zr a, zr a'] H = some (some (some (.inl (if b = b' then 1 else 0))), H) := by
  obtain ⟨e, h4, h5, h6⟩ := h.2.2.2
  obtain ⟨e', g4, g5, g6⟩ := h'.2.2.2
  have fin : zW (YL C (d + 1) 798 [zr a, zr a'] H) (fun o S' => o = some (some (.inl (if b = b' then 1 else 0))) ∧ S' = H) := by
    refine yl_String_equals_p36 ?_
    unfold yb_String_equals_p36
    refine zW_gRs h.2.1 (zW_gRs h'.2.1 ?_)
    rw [h4, g4]
    refine zW_Ie (y_bytesEq h6 g6 hl) (zW_if (fun z => zW_rN rfl ⟨?_, rfl⟩) (fun z => zW_rN rfl ⟨?_, rfl⟩))
    · rw [z]
    · by_cases q : b = b'
      · rw [if_pos q]
      · rw [if_neg q] at z; exact absurd rfl z
  refine zW_get (yl_String_equals ?_)
  unfold yb_String_equals
  refine zW_if (fun y => zW_rN rfl ⟨?_, rfl⟩) (fun y => ?_)
  · have y : a = a' := Option.some.inj y
    subst y
    rw [h4] at g4
    have := Option.some.inj g4
    subst this
    have hb : b = b' := by
      have e1 := h6.2.2.1
      have e2 := g6.2.2.1
      refine List.ext_getElem (by omega) (fun j j1 j2 => ?_)
      have q1 := h6.2.2.2.1 j j1
      have q2 := g6.2.2.2.1 j j2
      have := zbyte_inj (getD_in h6.2.2.2.2 j) (getD_in g6.2.2.2.2 j) (q1.symm.trans q2)
      rw [List.getD_eq_getElem?_getD, List.getD_eq_getElem?_getD, List.getElem?_eq_getElem j1, List.getElem?_eq_getElem j2] at this
      exact this
    rw [if_pos hb]
  · have io : ∀ k : Int → ZR YS, zW (k 1) (fun o S' => o = some (some (.inl (if b = b' then 1 else 0))) ∧ S' = H) → zW (yio 30 10 (some a') H k) (fun o S' => o = some (some (.inl (if b = b' then 1 else 0))) ∧ S' = H) := by
      intro k hk
      rcases h'.2.1 with q | q
      · exact zW_io q (by decide +kernel) hk
      · exact zW_io q (by decide +kernel) hk
    refine io _ (zW_f (by decide) ?_)
    have cc : ∀ k : ZR YS, zW k (fun o S' => o = some (some (.inl (if b = b' then 1 else 0))) ∧ S' = H) → zW (ycc 30 10 (some a') H k) (fun o S' => o = some (some (.inl (if b = b' then 1 else 0))) ∧ S' = H) := by
      intro k hk
      rcases h'.2.1 with q | q
      · exact zW_cc q (by decide +kernel) hk
      · exact zW_cc q (by decide +kernel) hk
    refine cc _ (zW_let (zW_svI (zW_if (fun z => fin) (fun z => ?_))))
    have g1 : ∀ (x : Nat) (b1 : List Int) (k : Int → ZR YS), StrY B H x b1 → zW (k 0) (fun o S' => o = some (some (.inl (if b = b' then 1 else 0))) ∧ S' = H) → zW (ygI 6301 (some x) H k) (fun o S' => o = some (some (.inl (if b = b' then 1 else 0))) ∧ S' = H) := by
      intro x b1 k hx hk
      rcases hx.2.1 with q | q
      · exact zW_gI q rfl (by rw [hx.2.2.1]; exact hk)
      · exact zW_gI q rfl (by rw [hx.2.2.1]; exact hk)
    exact g1 a b _ h (g1 a' b' _ h' (zW_t rfl fin))
/-- whether a sign is one of a String's -/
theorem y_indexOf {x : Int} (hC : CW C) (h : StrY B H a b) (hl : b.length < 2147483647) (hx : 0 ≤ x ∧ x ≤ 255) : zW (YL C (d + 3) 510 [zr a, .inl x] H) (fun o S' => S' = H ∧ ∃ v : Int, o = some (some (.inl v)) ∧ (0 ≤ v ↔ x ∈ b)) := by
  obtain ⟨e, h4, h5, h6, h7, h8, h9, h10⟩ := h.2.2.2
  refine yl_String_indexOf ?_
  unfold yb_String_indexOf
  rw [ycv_str h.2.1]
  refine zW_I (P := fun v S' => S' = H ∧ (0 ≤ v ↔ x ∈ b)) (T := fun _ => False) (zW_c ?_) (fun v S' q => zW_rI ⟨q.1, v, rfl, q.2⟩) (fun _ q => q.elim)
  refine yl_String_indexOf_2 ?_
  unfold yb_String_indexOf_2
  rw [ycv_str h.2.1]
  refine zW_Ie (y_isLatin1 hC h) (zW_f (by decide) (zW_gRs h.2.1 ?_))
  rw [ycv_str h.2.1, h4]
  refine zW_Ie (y_length hC h (by omega)) ?_
  refine zW_I (P := fun v S' => S' = H ∧ (0 ≤ v ↔ x ∈ b)) (T := fun _ => False) (zW_c ?_) (fun v S' q => zW_rI ⟨q.1, q.2⟩) (fun _ q => q.elim)
  refine yl_StringLatin1_indexOf ?_
  unfold yb_StringLatin1_indexOf
  have e1 : YL C d 959 [.inl x] H = some (some (some (.inl 1)), H) := by
    refine zW_get (yl_StringLatin1_canEncode_2 ?_)
    unfold yb_StringLatin1_canEncode_2
    exact zW_f (by omega) (zW_t (by omega) (zW_rN rfl ⟨rfl, rfl⟩))
  have e2 : YL C d 660 [.inl 0, .inl 0] H = some (some (some (.inl 0)), H) := by
    refine zW_get (yl_Math_max ?_)
    unfold yb_Math_max
    exact zW_f (by decide) (zW_rI ⟨rfl, rfl⟩)
  have e3 : YL C d 547 [.inl b.length, .inl (yN H e)] H = some (some (some (.inl b.length)), H) := by
    refine zW_get (yl_Math_min ?_)
    unfold yb_Math_min
    exact zW_t (by omega) (zW_rI ⟨rfl, rfl⟩)
  refine zW_Ie e1 (zW_f (by decide) (zW_Ie e2 (zW_let (zW_len (by omega) (zW_Ie e3 (zW_let (zW_if (fun y => ?_) (fun y => ?_))))))))
  · refine zW_I (P := fun v S' => S' = H ∧ (0 ≤ v ↔ x ∈ b)) (T := fun _ => False) (zW_c ?_) (fun v S' q => zW_rI ⟨q.1, q.2⟩) (fun _ q => q.elim)
    refine yl_StringLatin1_indexOfChar ?_
    unfold yb_StringLatin1_indexOfChar
    refine zW_let (zW_let ?_)
    have loop : ∀ n k : Nat, b.length < n + k → k ≤ b.length → (∀ j, j < k → b.getD j 0 ≠ x) → zW (YL C d 998 [zr e, .inl (b.length : Int), .inl (zbyte x), .inl (k : Int)] H) (oI (fun v S' => S' = H ∧ (0 ≤ v ↔ x ∈ b)) fun _ => False) := by
      intro n
      induction n with
      | zero => intro k q1 q2; omega
      | succ n ih =>
        intro k q1 q2 q3
        refine yl_StringLatin1_indexOfChar_p7 ?_
        unfold yb_StringLatin1_indexOfChar_p7
        refine zW_if (fun z => zW_aIb h7 (by omega) (zW_if (fun z1 => zW_rI ⟨rfl, ?_⟩) (fun z1 => zW_G (by omega) (zW_let ?_)))) (fun z => zW_rI ⟨rfl, ?_⟩)
        · rw [h9 k (by omega)] at z1
          have := zbyte_inj (getD_in h10 k) hx z1
          have hm : x ∈ b := by
            rw [← this, List.getD_eq_getElem?_getD, List.getElem?_eq_getElem (by omega)]
            exact List.getElem_mem _
          exact ⟨fun _ => hm, fun _ => by omega⟩
        · rw [show (k : Int) + 1 = ((k + 1 : Nat) : Int) by omega]
          refine ih (k + 1) (by omega) (by omega) (fun j hj => ?_)
          by_cases q : j = k
          · rw [q]
            intro q2
            exact z1 (by rw [h9 k (by omega), q2])
          · exact q3 j (by omega)
        · refine ⟨fun q => by omega, fun q => ?_⟩
          obtain ⟨j, hj, ej⟩ := List.mem_iff_getElem.mp q
          exact absurd (by rw [List.getD_eq_getElem?_getD, List.getElem?_eq_getElem hj]; exact ej) (q3 j (by omega))
    exact loop (b.length + 1) 0 (by omega) (by omega) (fun j hj => by omega)
  · refine zW_rI ⟨rfl, fun q => by omega, fun q => ?_⟩
    have := List.length_pos_of_mem q
    omega
end YStr
