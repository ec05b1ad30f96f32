set_option maxRecDepth 100000
/-! THE HOUSE'S LEXER: tokens -/
/-- the kinds' objects: WORD, NAME, VARIABLE, INT, STRING, CHAR, END -/
def tkK (C : YC) (k : Nat) : Option Nat := C.2.2.1 (match k with
  | 0 => 10
  | 1 => 9
  | 2 => 11
  | 3 => 12
  | 4 => 13
  | 5 => 14
  | _ => 3)
def TokY (C : YC) (B : Nat → Prop) (H : YS) (a : Nat) (k : Tok) : Prop := a < ynx H ∧ yK H a = 22 ∧ yR H 6600 a = tkK C k.1 ∧ yI H 6601 a = (k.2.1 : Int) ∧ (∃ s, yR H 6602 a = some s ∧ StrY B H s k.2.2.1) ∧ yI H 6603 a = k.2.2.2
/-- a token is had, up to j; a fault -/
def TkOk (C : YC) (B : Nat → Prop) (X : Nat → Nat) (t : List Int) (KW : List (List Int)) (cap : Nat) (H : YS) (k : Tok) (j : Nat) (r : Option Nat) (H' : YS) : Prop := ∃ tk KW' cap', r = some tk ∧ TokY C B H' tk k ∧ Lf C B X H' ∧ Lt X H' t j ∧ LnY B X H' KW' cap' ∧ KW'.length ≤ KW.length + 1 ∧ cap ≤ cap' ∧ yI H' 2405 (X 0) = yI H 2405 (X 0) ∧ yEx (PL X H) (50 + (j - k.2.1)) (300 + 8 * (j - k.2.1) + 4 * (cap' - cap)) H H' ∧ ∀ x, x < ynx H → PL X H' x → PL X H x
def ThOk (C : YC) (B : Nat → Prop) (X : Nat → Nat) (t : List Int) (KW : List (List Int)) (cap : Nat) (H : YS) (e : Int) (p : Nat) (H' : YS) : Prop := ∃ KW' cap' j, Lf C B X H' ∧ Lt X H' t j ∧ LnY B X H' KW' cap' ∧ KW'.length ≤ KW.length + 1 ∧ cap ≤ cap' ∧ yI H' 301 (X 3) = e ∧ yI H' 302 (X 3) = (p : Int) ∧ yEx (PL X H) (50 + t.length) (300 + 8 * t.length + 4 * (cap' - cap)) H H' ∧ ∀ x, x < ynx H → PL X H' x → PL X H x
section YTok
variable {B P : Nat → Prop} {C : YC} {X : Nat → Nat} {H H' H1 : YS} {a a' e e' c s d f g i j x cap : Nat} {v : Int} {t b b' : List Int} {KW : List (List Int)} {Q : Option (Option ZV) → YS → Prop}
theorem TokY_ex {k : Tok} (h : TokY C B H a k) (hx : yEx P c s H H') (hp : PN B P H) (hp2 : ¬ P a) : TokY C B H' a k := by
  obtain ⟨h1, h2, h3, h4, ⟨r, h5, h6⟩, h7⟩ := h
  have sa := hx.1 a h1 hp2
  exact ⟨Nat.lt_of_lt_of_le h1 hx.2.2.1, by rw [(hx.2.1 a h1).1]; exact h2, by rw [sa.2.1]; exact h3, by rw [sa.1]; exact h4, ⟨r, by rw [sa.2.1]; exact h5, StrY_ex h6 hx hp⟩, by rw [sa.1]; exact h7⟩
theorem getD_mapsome {KA : List Nat} {k : Nat} (h : k < KA.length) : (KA.map some).getD k none = some (KA.getD k 0) := by
  rw [List.getD_eq_getElem?_getD, List.getD_eq_getElem?_getD, List.getElem?_map, List.getElem?_eq_getElem h]
  rfl
theorem y_piece (hC : CW C) (hE : CE C H) (hB : ∀ x, B x → x < ynx H) (hF : Lf C B X H) (hT : Lt X H t i) (hN : LnY B X H KW cap) (hKW : KW.length ≤ 1000) (ha : a < i) (hn : i - a ≤ 30) (hsm : ∀ k, a ≤ k → k < i → tch t k < 128) :
    zW (YL C (d + 7) 181 [zr (X 0), .inl (a : Int)] H) (oQ (PcOk C B X t a i KW cap H) fun _ => False) := by
  obtain ⟨k0, k1, k2, k3, k4, k5, k6, k7⟩ := hF.1.2.1
  have hi := hT.2.2.2.1
  have hl := hT.2.2.1.1
  have N2 := hF.1.2.2.2.1.2.1
  have N6 := hF.1.2.2.2.1.2.2.1
  have N7 := hF.1.2.2.2.1.2.2.2
  have R2 := hF.1.2.2.1.2.1
  have i1 := tc0_in hT.2.2.1 a
  have i2 := tc0_in hT.2.2.1 (i - 1)
  have s1 := hsm a (Nat.le_refl _) ha
  have s2 := hsm (i - 1) (by omega) (by omega)
  refine yl_Lexer_piece ?_
  unfold yb_Lexer_piece
  refine zW_gR k0 rfl ?_
  rw [R2]
  refine zW_aI k2 rfl (by omega) ?_
  rw [hT.2.2.2.2 a (by omega), zbyte_small ⟨by omega, s1⟩]
  refine zW_gR k0 rfl ?_
  rw [R2]
  refine zW_gI k0 rfl ?_
  rw [hT.2.1]
  refine zW_aI k2 rfl (by omega) ?_
  rw [show (i : Int) - 1 = ((i - 1 : Nat) : Int) by omega, hT.2.2.2.2 (i - 1) (by omega), zbyte_small ⟨by omega, s2⟩]
  refine zW_gI k0 rfl ?_
  rw [hT.2.1]
  generalize hhd : zandI ((tch t a + 7 * tch t (i - 1)) + 31 * ((i : Int) - (a : Int))) 255 = hh
  have hhh : 0 ≤ hh ∧ hh < 256 := by
    rw [zand_255 (by omega) (by omega)] at hhd
    omega
  refine zW_let (zW_gR k0 rfl ?_)
  rw [hF.1.2.2.1.2.2.2.2.1]
  refine zW_aI k6 rfl (by omega) (zW_let ?_)
  obtain ⟨g0, e, KA, g1, g2, g3, g4, g5⟩ := id hN
  have loop : ∀ (n : Nat) (v : Int), v < n → -1 ≤ v → v < KW.length → zW (YL C (d + 7) 622 [zr (X 0), .inl (a : Int), .inl hh, .inl v] H) (oQ (PcOk C B X t a i KW cap H) fun _ => False) := by
    intro n
    induction n with
    | zero =>
      intro v q1 q2 q3
      have : v = -1 := by omega
      subst this
      exact y_pieceNew hC hE hB hF hT hN hKW ha hn hsm hhh
    | succ n ih =>
      intro v q1 q2 q3
      by_cases hv : v = -1
      · subst hv
        exact y_pieceNew hC hE hB hF hT hN hKW ha hn hsm hhh
      · obtain ⟨k, rfl⟩ : ∃ k : Nat, v = (k : Int) := ⟨v.toNat, by omega⟩
        have hk : k < KW.length := by omega
        have hg := y_get (d := d + 4) (C := C) g1 (k := k) (by rw [List.length_map]; omega)
        rw [getD_mapsome (by omega)] at hg
        have hst := (g3 k hk).1
        refine yl_Lexer_piece_p43 ?_
        unfold yb_Lexer_piece_p43
        refine zW_f (by omega) (zW_gR k0 rfl ?_)
        rw [hF.1.2.2.1.2.2.2.1, ycv_s k5 ⟨by decide, rfl⟩]
        refine zW_Qe hg (StrY_cast hst ?_)
        rw [ycv_lex' hF]
        refine zW_Ie (y_isHere (d := d + 2) hC hF hT hst (g3 k hk).2.2 (by have := (g3 k hk).2.1; omega) (by omega)) (zW_if (fun y => ?_) (fun y => ?_))
        · refine zW_gR k0 rfl ?_
          rw [hF.1.2.2.1.2.2.2.2.2.1]
          have := g5 k hk
          exact zW_aI k7 rfl (by omega) (zW_let (ih _ (by omega) this.1 (by omega)))
        · have hb : KW.getD k [] = sl t a (i - a) := by
            by_cases w : KW.getD k [] = sl t a (i - a)
            · exact w
            · rw [if_neg w] at y; exact absurd rfl y
          refine zW_gR k0 rfl ?_
          rw [hF.1.2.2.1.2.2.2.1, ycv_s k5 ⟨by decide, rfl⟩]
          rw [hb] at hst
          exact zW_Qe hg (StrY_cast hst (zW_rQ ⟨KA.getD k 0, KW, cap, rfl, hst, hF, hT, hN, Nat.le_succ _, Nat.le_refl _, yEx_refl, fun _ _ q => q⟩))
  have := g4 hh hhh.1 hhh.2
  exact loop ((yA H (X 6) hh).toNat + 1) _ (by omega) this.1 this.2
/-- a token's fields are laid down -/
theorem y_tokInit {kd : Option Nat} {p v : Int} (ha : a < ynx H) (hk : yK H a = 22) : YL C d 315 [zr a, .inr (.inr kd), .inl p, .inr (.inr (some s)), .inl v] H = some (some none, yput (yputR (yput (yputR H 6600 a kd) 6601 a p) 6602 a (some s)) 6603 a v) := by
  refine zW_get (yl_Token_init ?_)
  unfold yb_Token_init
  exact zW_nn (zW_pR hk (by decide) (zW_pI (by exact hk) (by decide) rfl (zW_pR (by exact hk) (by decide) (zW_pI (by exact hk) (by decide) rfl (zW_rV ⟨rfl, rfl⟩)))))
theorem TokY_new {kd : Option Nat} {k : Tok} (ha : a < ynx H) (hk : yK H a = 22) (hkd : kd = tkK C k.1) (hs : StrY B H s k.2.2.1) (hsa : yK H s = 21 ∨ yK H s = 2021) : TokY C B (yput (yputR (yput (yputR H 6600 a kd) 6601 a k.2.1) 6602 a (some s)) 6603 a k.2.2.2) a k := by
  refine ⟨ha, hk, ?_, ?_, ⟨s, ?_, ?_⟩, ?_⟩
  · rw [← hkd]
    have e : ∀ w v p, yR (yput (yputR (yput (yputR H 6600 a kd) 6601 a p) 6602 a w) 6603 a v) 6600 a = kd := fun w v p => (yputR_f (H := yput (yputR H 6600 a kd) 6601 a p) (f := 6602) (g := 6600) (by decide)).trans yputR_at
    exact e _ _ _
  · exact yput_at
  · exact yputR_at
  · exact ⟨hs.1, hs.2.1, hs.2.2.1, by
      obtain ⟨e, q1, q2⟩ := hs.2.2.2
      refine ⟨e, ?_, q2⟩
      have w : ∀ r v p, yR (yput (yputR (yput (yputR H 6600 a kd) 6601 a p) 6602 a r) 6603 a v) 6300 s = yR H 6300 s := fun r v p => ((yputR_f (H := yput (yputR H 6600 a kd) 6601 a p) (f := 6602) (g := 6300) (by decide)).trans (yputR_f (by decide)))
      exact (w _ _ _).trans q1⟩
  · exact yput_at
end YTok
