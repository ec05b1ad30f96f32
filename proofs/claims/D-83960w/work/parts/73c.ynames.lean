set_option maxRecDepth 100000
/-! THE HOUSE'S LEXER: words kept back, names -/
theorem zbyte_lo : ∀ m : Nat, m < 128 → zbyte m = m := by decide +kernel
theorem zbyte_hi : ∀ m : Nat, m < 256 → 128 ≤ m → zbyte m < 0 := by decide +kernel
theorem zbyte_small {x : Int} (hx : 0 ≤ x ∧ x < 128) : zbyte x = x := by
  obtain ⟨m, rfl⟩ : ∃ m : Nat, x = (m : Int) := ⟨x.toNat, by omega⟩
  exact zbyte_lo m (by omega)
theorem zbyte_same {x y : Int} (hx : 0 ≤ x ∧ x < 128) (hy : 0 ≤ y ∧ y ≤ 255) : x = zbyte y ↔ x = y := by
  by_cases h : y < 128
  · rw [zbyte_small ⟨hy.1, h⟩]
  · obtain ⟨m, rfl⟩ : ∃ m : Nat, y = (m : Int) := ⟨y.toNat, by omega⟩
    have := zbyte_hi m (by omega) (by omega)
    constructor <;> intro q <;> omega
/-- names of the INPUT -/
def LnY (B : Nat → Prop) (X : Nat → Nat) (H : YS) (KW : List (List Int)) (cap : Nat) : Prop := cap ≤ 3000 ∧ ∃ (e : Nat) (KA : List Nat), AlY H (X 5) e cap (KA.map some) ∧ KA.length = KW.length ∧ (∀ k, k < KW.length → StrY B H (KA.getD k 0) (KW.getD k []) ∧ (KW.getD k []).length ≤ 30 ∧ ∀ c ∈ KW.getD k [], c < 128) ∧ (∀ h : Int, 0 ≤ h → h < 256 → -1 ≤ yA H (X 6) h ∧ yA H (X 6) h < KW.length) ∧ ∀ k : Nat, k < KW.length → -1 ≤ yA H (X 7) k ∧ yA H (X 7) k < k
/-- what reading writes: names; the place and the fault, too -/
def PL0 (X : Nat → Nat) (H : YS) : Nat → Prop := fun x => x = X 5 ∨ x = X 6 ∨ x = X 7 ∨ (yR H 1501 (X 5) = some x ∧ yK H x = 1005)
def PL (X : Nat → Nat) (H : YS) : Nat → Prop := fun x => x = X 0 ∨ x = X 3 ∨ PL0 X H x
section YNames
variable {B P : Nat → Prop} {C : YC} {X : Nat → Nat} {H H' H1 : YS} {a a' e e' c s d f g i j x cap : Nat} {v : Int} {t b b' : List Int} {KW : List (List Int)} {Q : Option (Option ZV) → YS → Prop}
theorem Lf_ex (h : Lf C B X H) (hx : yEx P c s H H') (hp : PN B P H) (h0 : ¬ P (X 0)) (h1 : ¬ P (X 1)) (h3 : ¬ P (X 3)) : Lf C B X H' := by
  obtain ⟨⟨a1, a2, a3, a4, a5, a6⟩, hs⟩ := h
  have k := fun j (hj : j < 8) => hx.2.1 (X j) (a1 j hj)
  have s0 := hx.1 (X 0) (a1 0 (by decide)) h0
  have s1 := hx.1 (X 1) (a1 1 (by decide)) h1
  have s3 := hx.1 (X 3) (a1 3 (by decide)) h3
  refine ⟨⟨fun j hj => Nat.lt_of_lt_of_le (a1 j hj) hx.2.2.1, ?_, ?_, ?_, a5, fun j hj => by rw [s1.2.2.2]; exact a6 j hj⟩, fun j hj => StrY_ex (hs j hj) hx hp⟩
  · rw [(k 0 (by decide)).1, (k 1 (by decide)).1, (k 2 (by decide)).1, (k 3 (by decide)).1, (k 4 (by decide)).1, (k 5 (by decide)).1, (k 6 (by decide)).1, (k 7 (by decide)).1]
    exact a2
  · rw [s0.2.1, s0.2.1, s0.2.1, s0.2.1, s0.2.1, s0.2.1, s3.2.1]
    exact a3
  · rw [(k 1 (by decide)).2, (k 2 (by decide)).2, (k 6 (by decide)).2, (k 7 (by decide)).2]
    exact a4
theorem Lt_ex (hF : Lf C B X H) (h : Lt X H t i) (hx : yEx P c s H H') (h0 : ¬ P (X 0)) (h2 : ¬ P (X 2)) : Lt X H' t i := by
  have s0 := hx.1 (X 0) (hF.1.1 0 (by decide)) h0
  have s2 := hx.1 (X 2) (hF.1.1 2 (by decide)) h2
  exact ⟨by rw [s0.1]; exact h.1, by rw [s0.1]; exact h.2.1, h.2.2.1, h.2.2.2.1, fun k hk => by rw [s2.2.2.1]; exact h.2.2.2.2 k hk⟩
theorem LnY_ex (hF : Lf C B X H) (h : LnY B X H KW cap) (hx : yEx P c s H H') (hp : PN B P H) (h5 : ¬ P (X 5)) (h6 : ¬ P (X 6)) (h7 : ¬ P (X 7)) (he : ∀ e, yR H 1501 (X 5) = some e → yK H e = 1005 → ¬ P e) : LnY B X H' KW cap := by
  obtain ⟨g0, e, KA, g1, g2, g3, g4, g5⟩ := h
  have s6 := hx.1 (X 6) (hF.1.1 6 (by decide)) h6
  have s7 := hx.1 (X 7) (hF.1.1 7 (by decide)) h7
  exact ⟨g0, e, KA, AlY_ex g1 hx h5 (he e g1.2.2.1), g2, fun k hk => ⟨StrY_ex (g3 k hk).1 hx hp, (g3 k hk).2⟩, fun k k1 k2 => by rw [s6.2.2.1]; exact g4 k k1 k2, fun k hk => by rw [s7.2.2.1]; exact g5 k hk⟩
/-- what lies from a place on is a String's -/
theorem y_isHere (hC : CW C) (hF : Lf C B X H) (hT : Lt X H t i) (h : StrY B H x b) (hb : ∀ c ∈ b, c < 128) (hbl : b.length < 1000000) (ha : a ≤ i) : YL C (d + 4) 180 [zr (X 0), .inl (a : Int), zr x] H = some (some (some (.inl (if b = sl t a (i - a) then 1 else 0))), H) := by
  have k8 := hF.1.2.1.1
  have hi := hT.2.2.2.1
  have hl := hT.2.2.1.1
  have hsl : (sl t a (i - a)).length = i - a := sl_len (by omega)
  by_cases hlen : b.length = i - a
  · have loop : ∀ (n k : Nat) (v : Int), b.length < n + k → k ≤ b.length → (v = 0 ∧ (∃ j, j < k ∧ b.getD j 0 ≠ (sl t a (i - a)).getD j 0) ∨ v = 1 ∧ ∀ j, j < k → b.getD j 0 = (sl t a (i - a)).getD j 0) → zW (YL C (d + 4) 621 [zr (X 0), .inl (a : Int), zr x, .inl v, .inl (k : Int)] H) (fun o H1 => o = some (some (.inl (if b = sl t a (i - a) then 1 else 0))) ∧ H1 = H) := by
      intro n
      induction n with
      | zero => intro k v q1 q2; omega
      | succ n ih =>
        intro k v q1 q2 q3
        refine yl_Lexer_isHere_p22 ?_
        unfold yb_Lexer_isHere_p22
        rw [ycv_str h.2.1]
        have no : (∃ j, j < k ∧ b.getD j 0 ≠ (sl t a (i - a)).getD j 0) → ¬ b = sl t a (i - a) := by
          rintro ⟨j, -, q⟩ z
          exact q (by rw [z])
        refine zW_Ie (y_length hC h (by omega)) (zW_if (fun z => zW_if (fun z1 => ?_) (fun z1 => ?_)) (fun z => ?_))
        · subst z1
          rcases q3 with q | q
          · exact zW_rN rfl ⟨by rw [if_neg (no q.2)], rfl⟩
          · omega
        · rw [ycv_str h.2.1]
          have hk : k < b.length := by omega
          have hcb := getD_in (b := b) (by obtain ⟨_, _, _, q⟩ := h.2.2.2; exact q.2.2.2.2) k
          have hcb2 : b.getD k 0 < 128 := by
            refine hb _ ?_
            rw [List.getD_eq_getElem?_getD, List.getElem?_eq_getElem hk]
            exact List.getElem_mem _
          have hin := tc0_in hT.2.2.1 (a + k)
          have e1 := sl_at (t := t) (a := a) (n := i - a) (k := k) (by omega) (by omega)
          refine zW_Ie (y_charAt hC h hk) (zW_gR k8 rfl ?_)
          rw [hF.1.2.2.1.2.1]
          have hn := hF.1.2.2.2.1.2.1
          refine zW_aI hF.1.2.1.2.2.1 rfl (by omega) ?_
          rw [show (a : Int) + (k : Int) = ((a + k : Nat) : Int) by omega, hT.2.2.2.2 _ (by omega)]
          have hsame := zbyte_same (x := b.getD k 0) (y := tch t (a + k)) ⟨hcb.1, hcb2⟩ (by omega)
          refine zW_if (fun z2 => ?_) (fun z2 => ?_)
          · refine zW_let (zW_G (by omega) (zW_let ?_))
            rw [show (k : Int) + 1 = ((k + 1 : Nat) : Int) by omega]
            refine ih (k + 1) 1 (by omega) (by omega) (Or.inr ⟨rfl, fun j hj => ?_⟩)
            rcases q3 with q | q
            · omega
            · by_cases w : j = k
              · rw [w, e1]; exact hsame.mp z2
              · exact q.2 j (by omega)
          · refine zW_let (zW_G (by omega) (zW_let ?_))
            rw [show (k : Int) + 1 = ((k + 1 : Nat) : Int) by omega]
            exact ih (k + 1) 0 (by omega) (by omega) (Or.inl ⟨rfl, k, by omega, fun w => z2 (hsame.mpr (by rw [w, e1]))⟩)
        · rcases q3 with ⟨rfl, q⟩ | ⟨rfl, q⟩
          · exact zW_rN rfl ⟨by rw [if_neg (no q)], rfl⟩
          · refine zW_rN rfl ⟨?_, rfl⟩
            rw [if_pos]
            refine List.ext_getElem (by omega) (fun j j1 j2 => ?_)
            have := q j (by omega)
            rw [List.getD_eq_getElem?_getD, List.getD_eq_getElem?_getD, List.getElem?_eq_getElem j1, List.getElem?_eq_getElem j2] at this
            exact this
    refine zW_get (yl_Lexer_isHere ?_)
    unfold yb_Lexer_isHere
    rw [ycv_str h.2.1]
    refine zW_Ie (y_length hC h (by omega)) (zW_gI k8 rfl ?_)
    rw [hT.2.1]
    refine zW_G (by omega) (zW_t (by omega) (zW_let (zW_let ?_)))
    exact loop (b.length + 1) 0 1 (by omega) (by omega) (Or.inr ⟨rfl, fun j hj => by omega⟩)
  · have hne : ¬ b = sl t a (i - a) := fun q => hlen (by rw [q]; exact hsl)
    rw [if_neg hne]
    refine zW_get (yl_Lexer_isHere ?_)
    unfold yb_Lexer_isHere
    rw [ycv_str h.2.1]
    refine zW_Ie (y_length hC h (by omega)) (zW_gI k8 rfl ?_)
    rw [hT.2.1]
    refine zW_G (by omega) (zW_f (by omega) (zW_let (zW_let ?_)))
    refine yl_Lexer_isHere_p22 ?_
    unfold yb_Lexer_isHere_p22
    rw [ycv_str h.2.1]
    exact zW_Ie (y_length hC h (by omega)) (zW_if (fun z => zW_t rfl (zW_rN rfl ⟨rfl, rfl⟩)) (fun z => zW_rN rfl ⟨rfl, rfl⟩))
theorem cstr_small : ∀ k, k < 43 → (cstr (2 + k)).length ≤ 30 ∧ (∀ c ∈ cstr (2 + k), c < 128) ∧ cstr (2 + k) = sKeptH.getD k [] := by decide
theorem cstr_w {k : Nat} (hk : k < 43) : 2 + k ∈ cstrs ∧ cstr (2 + k) = sKeptH.getD k [] := ⟨List.mem_range.mpr (by omega), (cstr_small k hk).2.2⟩
theorem ycv_lex' {R : ZC YS} {tag : Nat} {as : List ZV} (hF : Lf C B X H) : ycv R d [(8, tag)] (some (X 0)) as H = zc R d tag (.inr (.inr (some (X 0))) :: as) H := ycv_s hF.1.2.1.1 ⟨by decide, rfl⟩
/-- the word kept back that lies here -/
theorem y_kept (hC : CW C) (hF : Lf C B X H) (hT : Lt X H t i) (ha : a ≤ i) : zW (YL C (d + 5) 179 [zr (X 0), .inl (a : Int)] H) (fun o H1 => H1 = H ∧ ((o = some (some (.inl (-1))) ∧ sl t a (i - a) ∉ sKeptH) ∨ ∃ k : Nat, k < 43 ∧ o = some (some (.inl (k : Int))) ∧ sKeptH.getD k [] = sl t a (i - a))) := by
  have k8 := hF.1.2.1.1
  have k6 := hF.1.2.1.2.1
  have n43 := hF.1.2.2.2.1.1
  refine yl_Lexer_kept ?_
  unfold yb_Lexer_kept
  refine zW_let ?_
  have loop : ∀ n k : Nat, 43 < n + k → k ≤ 43 → (∀ j, j < k → sKeptH.getD j [] ≠ sl t a (i - a)) → zW (YL C (d + 5) 620 [zr (X 0), .inl (a : Int), .inl (k : Int)] H) (fun o H1 => H1 = H ∧ ((o = some (some (.inl (-1))) ∧ sl t a (i - a) ∉ sKeptH) ∨ ∃ k : Nat, k < 43 ∧ o = some (some (.inl (k : Int))) ∧ sKeptH.getD k [] = sl t a (i - a))) := by
    intro n
    induction n with
    | zero => intro k q1 q2; omega
    | succ n ih =>
      intro k q1 q2 q3
      refine yl_Lexer_kept_p2 ?_
      unfold yb_Lexer_kept_p2
      refine zW_gR k8 rfl ?_
      rw [hF.1.2.2.1.1]
      refine zW_len (by omega) ?_
      rw [n43]
      refine zW_if (fun z => zW_gR k8 rfl ?_) (fun z => zW_rI ⟨rfl, Or.inl ⟨rfl, fun q => ?_⟩⟩)
      · have hk : k < 43 := by omega
        have hw := cstr_w hk
        have hS := hF.2 (2 + k) hw.1
        have hsm := cstr_small k hk
        rw [hw.2] at hS hsm
        rw [hF.1.2.2.1.1]
        refine zW_aR (by omega) (by omega) ?_
        rw [hF.1.2.2.2.2.2 k hk, ycv_lex' hF]
        refine zW_Ie (y_isHere hC hF hT hS hsm.2.1 (by omega) ha) (zW_if (fun y => zW_G (by omega) (zW_let ?_)) (fun y => zW_rI ⟨rfl, Or.inr ⟨k, hk, rfl, ?_⟩⟩))
        · rw [show (k : Int) + 1 = ((k + 1 : Nat) : Int) by omega]
          refine ih (k + 1) (by omega) (by omega) (fun j hj w => ?_)
          by_cases e : j = k
          · rw [e] at w
            rw [if_pos w] at y
            cases y
          · exact q3 j (by omega) w
        · by_cases w : sKeptH.getD k [] = sl t a (i - a)
          · exact w
          · rw [if_neg w] at y
            exact absurd rfl y
      · obtain ⟨j, hj, e⟩ := List.mem_iff_getElem.mp q
        have h43 : sKeptH.length = 43 := by decide
        refine q3 j (by omega) ?_
        rw [List.getD_eq_getElem?_getD, List.getElem?_eq_getElem hj]
        exact e
  exact loop 44 0 (by omega) (by omega) (fun j hj => by omega)
end YNames
