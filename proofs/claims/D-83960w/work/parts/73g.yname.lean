set_option maxRecDepth 100000
/-! THE HOUSE'S LEXER: names, variables, signs, dots -/
section YName
variable {B P : Nat → Prop} {C : YC} {X : Nat → Nat} {H H' H1 H3 : YS} {a a' e' s d f g i j x cap cap' r c0 s0 : Nat} {v e : Int} {t b b' : List Int} {KW KW' : List (List Int)} {Q : Option (Option ZV) → YS → Prop}
theorem sSkip_all {p : Int → Bool} : ∀ n i, t.length < n + i → ∀ k, i ≤ k → k < sSkip p t i → p (tch t k) = true := by
  intro n
  induction n with
  | zero =>
    intro i h k h1 h2
    rw [sSkip, if_neg (by omega)] at h2
    omega
  | succ n ih =>
    intro i h k h1 h2
    rw [sSkip] at h2
    split at h2
    · next q =>
      by_cases e : k = i
      · rw [e]; exact q.2
      · exact ih (i + 1) (by omega) k (by omega) h2
    · omega
theorem sGoes_lt {c : Int} (h : sGoes c = true) : c < 128 := by
  unfold sGoes sLetter sDigit at h
  simp at h
  omega
theorem TkOk_at {k : Tok} {ro : Option Nat} {w : Int} (h : TkOk C B X t KW cap (yput H 2404 (X 0) w) k j ro H') : TkOk C B X t KW cap H k j ro H' := by
  obtain ⟨tk, KW', cap', h1, h2, h3, h4, h5, h6, h7, h8, h9, h10⟩ := h
  refine ⟨tk, KW', cap', h1, h2, h3, h4, h5, h6, h7, h8.trans (yput_f (by decide)), ?_, h10⟩
  exact yEx_mono (yEx_trans (P := PL X H) (yEx_put (yEx_refl (c := 0) (s := 0)) (fun _ => Or.inl rfl)) h9 (fun _ _ z => z)) (fun _ _ z => z) (by omega) (by omega)
theorem ThOk_at {p : Nat} {w : Int} (h : ThOk C B X t KW cap (yput H 2404 (X 0) w) e p H') : ThOk C B X t KW cap H e p H' := by
  obtain ⟨KW', cap', j, h1, h2, h3, h4, h5, h6, h7, h8, h9⟩ := h
  refine ⟨KW', cap', j, h1, h2, h3, h4, h5, h6, h7, ?_, h9⟩
  exact yEx_mono (yEx_trans (P := PL X H) (yEx_put (yEx_refl (c := 0) (s := 0)) (fun _ => Or.inl rfl)) h8 (fun _ _ z => z)) (fun _ _ z => z) (by omega) (by omega)
theorem sl_0 {n : Nat} (h : a + n ≤ t.length) (hn : 0 < n) {l : List Int} (q : sl t a n = l) : tch t a = l.getD 0 0 := by
  rw [← q, sl_at h hn, Nat.add_zero]
theorem y_name (hC : CW C) (hE : CE C H) (hB : ∀ x, B x → x < ynx H) (hF : Lf C B X H) (hT : Lt X H t a) (hN : LnY B X H KW cap) (hKW : KW.length ≤ 1000) (hlet : sLetter (tch t a) = true)
    (hok : ∀ k j r H', sName t a = .inr (k, j) → TkOk C B X t KW cap H k j r H' → Q (some (some (.inr (.inr r)))) H') (her : ∀ (e : Int) p H', sName t a = .inl (e, p) → ThOk C B X t KW cap H e p H' → Q none H') :
    zW (YL C (d + 9) 176 [zr (X 0), .inl (a : Int)] H) Q := by
  have hin := tc0_in hT.2.2.1 a
  have hl := of_decide_eq_true hlet
  have hi : a < t.length := by omega
  have hsk := sSkip_ge' (p := sGoes) (t := t) (i := a + 1) (by omega)
  have e1 : sSkip sGoes t a = sSkip sGoes t (a + 1) := by
    conv => lhs; rw [sSkip]
    rw [if_pos ⟨hi, by unfold sGoes; rw [hlet]; rfl⟩]
  refine yl_Lexer_name ?_
  unfold yb_Lexer_name
  rw [ycv_lex' hF]
  refine zW_Ve (y_letters (t.length + 1) a H (by omega) hF hT) ?_
  have F1 := Lf_put (f := 2404) (x := X 0) (v := ((sSkip sGoes t a : Nat) : Int)) (by decide) hF
  have T1 := Lt_at (j := sSkip sGoes t a) hT (by omega)
  rw [ycv_lex' F1]
  have fin : ∀ {x : ZR YS}, zW x (oQ (fun r S' => Q (some (some (.inr (.inr r)))) S') (fun S' => Q none S')) → zW (zQ x fun v h => zrQ v h) Q := fun h => zW_Q h (fun r S' q => zW_rQ q) (fun S' q => q)
  refine fin (zW_c (y_named (d := d) hC (CE_ex hE (yEx_put (P := fun _ => True) (c := 0) (s := 0) yEx_refl (fun _ => trivial))) hB F1 T1 (LnY_put hN (by decide)) hKW (by omega) (fun k h1 h2 => sGoes_lt (sSkip_all (t.length + 1) a (by omega) k h1 h2)) (fun q => ?_) (fun k j r H' q1 q2 => hok k j r H' q1 (TkOk_at q2)) (fun e p H' q1 q2 => her e p H' q1 (ThOk_at q2))))
  have := sl_0 (by omega) (by omega) q
  have h46 : ([46, 46, 46] : List Int).getD 0 0 = 46 := rfl
  omega
/-- a token whose text is a name's -/
theorem zW_pieceTok {kd jj : Nat} (hkd : C.2.2.1 jj = tkK C kd) (hkb : kd < 3) (hC : CW C) (hE : CE C H) (hB : ∀ x, B x → x < ynx H) (hF : Lf C B X H) (hT : Lt X H t i) (hN : LnY B X H KW cap) (hKW : KW.length ≤ 1000) (ha : a < i) (hn : i - a ≤ 30) (hsm : ∀ k, a ≤ k → k < i → tch t k < 128)
    (hok : ∀ r H', TkOk C B X t KW cap H (kd, a, sl t a (i - a), 0) i r H' → Q (some (some (.inr (.inr r)))) H') :
    zW (ynew 22 4 H fun r10 h11 => ysvR C jj fun v12 => zQ (ycv (YL C) (d + 8) [(8, 181)] (some (X 0)) [.inl (a : Int)] h11) fun v14 h13 => zV (ycs (YL C) (d + 8) 315 r10 [.inr (.inr v12), .inl (a : Int), .inr (.inr v14), .inl 0] h13) fun _h15 => zrQ r10 _h15) Q := by
  have lt := hF.1.1
  have exS : yEx (fun _ => False) 1 4 H (ymk H 22 0 4) := yEx_mono (yEx_mk (c := 0) (s := 0) yEx_refl) (fun _ _ z => z) (by omega) (by omega)
  have kS : yK (ymk H 22 0 4) (ynx H) = 22 := by rw [ymk_K, if_pos rfl]
  have xS : ynx (ymk H 22 0 4) = ynx H + 1 := rfl
  have FS := Lf_ex hF exS PN_F (fun z => z) (fun z => z) (fun z => z)
  have TS := Lt_ex hF hT exS (fun z => z) (fun z => z)
  have NS := LnY_ex hF hN exS PN_F (fun z => z) (fun z => z) (fun z => z) (fun _ _ _ z => z)
  have ES := CE_ex hE exS
  have MS := PL_ex hF exS (fun z => z)
  have I5 : yI (ymk H 22 0 4) 2405 (X 0) = yI H 2405 (X 0) := (exS.1 (X 0) (lt 0 (by decide)) (fun z => z)).1 2405
  refine zW_new ?_
  rw [if_neg (by decide)]
  refine zW_svR ?_
  rw [ycv_lex' FS]
  refine zW_Q (P := fun r H2 => PcOk C B X t a i KW cap (ymk H 22 0 4) r H2) (T := fun _ => False) (zW_c (y_piece (d := d) hC ES (fun x hx => by have := hB x hx; omega) FS TS NS hKW ha (by omega) hsm)) ?_ (fun _ q => q.elim)
  rintro r H2 ⟨s, KW', cap', rfl, p1, p2, p3, p4, p5, p6, p7, p8⟩
  have h0 : ¬ PL0 X (ymk H 22 0 4) (X 0) := by
    obtain ⟨f0, f1, f2, f3, f4, f5, f6, f7⟩ := FS.1.2.1
    rintro (q | q | q | ⟨_, q⟩)
    · have := congrArg (yK (ymk H 22 0 4)) q; omega
    · have := congrArg (yK (ymk H 22 0 4)) q; omega
    · have := congrArg (yK (ymk H 22 0 4)) q; omega
    · omega
  have exA : yEx (PL X H) 41 (204 + 4 * (cap' - cap)) H H2 := yEx_mono (yEx_trans (P := PL X H) (yEx_mono exS (fun _ _ z => z.elim) (Nat.le_refl _) (Nat.le_refl _)) p7 (fun x hx q => MS x hx (Or.inr (Or.inr q)))) (fun _ _ z => z) (by omega) (by omega)
  refine zW_tok (k := (kd, a, sl t a (i - a), 0)) (H := H) (KW' := KW') (cap' := cap') lt (Nat.le_refl _) (by have := p7.2.2.1; omega) (by rw [(p7.2.1 _ (by omega)).1]; exact kS) hkd p1 p2 p3 p4 p5 p6 (by rw [(p7.1 (X 0) (FS.1.1 0 (by decide)) h0).1]; exact I5) exA (by show 41 ≤ 50 + (i - a); omega) (by show _ ≤ 300 + 8 * (i - a) + 4 * (cap' - cap); omega) (fun x hx q => ?_) (fun H' q => hok _ H' q)
  rcases q with q | q | q
  · exact Or.inl q
  · exact Or.inr (Or.inl q)
  · exact MS x hx (Or.inr (Or.inr (p8 x (by omega) q)))
theorem y_variable (hC : CW C) (hE : CE C H) (hB : ∀ x, B x → x < ynx H) (hF : Lf C B X H) (hT : Lt X H t a) (hN : LnY B X H KW cap) (hKW : KW.length ≤ 1000) (h39 : tch t a = 39)
    (hok : ∀ k j r H', sVar t a = .inr (k, j) → TkOk C B X t KW cap H k j r H' → Q (some (some (.inr (.inr r)))) H') (her : ∀ (e : Int) p H', sVar t a = .inl (e, p) → ThOk C B X t KW cap H e p H' → Q none H') :
    zW (YL C (d + 8) 182 [zr (X 0)] H) Q := by
  have k0 := hF.1.2.1.1
  have hl := hT.2.2.1.1
  have hin := tc0_in hT.2.2.1 a
  have hin1 := tc0_in hT.2.2.1 (a + 1)
  have hi : a < t.length := by omega
  unfold sVar at hok her
  obtain ⟨e0, he0⟩ : ∃ e0 : Nat, (if tch t (a + 1) = 39 then a + 2 else a + 1) = e0 := ⟨_, rfl⟩
  rw [he0] at hok her
  have main : zW (YL C (d + 8) 623 [zr (X 0), .inl (a : Int), .inl ((e0 - a : Nat) : Int), .inl (a : Int), zr (X 0)] H) Q := by
    have hb : a < e0 ∧ e0 ≤ t.length ∧ e0 ≤ a + 2 ∧ (e0 = a + 2 → tch t (a + 1) = 39) := by split at he0 <;> omega
    refine yl_Lexer_variable_p25 ?_
    unfold yb_Lexer_variable_p25
    refine zW_G (by omega) (zW_pI k0 (by decide) rfl ?_)
    rw [show (a : Int) + ((e0 - a : Nat) : Int) = (e0 : Int) by omega]
    have F1 := Lf_put (f := 2404) (x := X 0) (v := (e0 : Int)) (by decide) hF
    have T1 := Lt_at (j := e0) hT (by omega)
    have N1 := LnY_put (a := X 0) (f := 2404) (v := (e0 : Int)) hN (by decide)
    have hin0 := tc0_in hT.2.2.1 e0
    rw [ycv_lex' F1]
    refine zW_Ie (y_see (k := 0) F1 T1 (by decide)) (zW_Ie y_isLetter ?_)
    rw [show e0 + 0 = e0 from rfl]
    have hsame : sLetter (tc0 t e0) = sLetter (tch t e0) := by
      rcases hin0 with q | q
      · rw [q.2.1]
      · rw [q.2.1, q.2.2]; rfl
    rw [hsame]
    refine zW_if (fun y => ?_) (fun y => ?_)
    · rw [bI_0] at y
      rw [if_neg (by rw [y]; exact fun q => by cases q)] at her
      exact zW_wrong F1 T1 (her 1 e0 _ rfl (ThOk_at (ThOk_thr F1 T1 N1 (Nat.le_succ _) (Nat.le_refl _) (yEx_refl (c := 0) (s := 0)) (by omega) (by omega) (fun _ _ q => q))))
    · rw [bI_1] at y
      rw [if_pos y] at hok her
      rw [ycv_lex' F1]
      have hsk := sSkip_ge' (p := sGoes) (t := t) (i := e0) hb.2.1
      refine zW_Ve (y_letters (t.length + 1) e0 _ (by omega) F1 T1) ?_
      rw [yput_put]
      have F2 := Lf_put (f := 2404) (x := X 0) (v := ((sSkip sGoes t e0 : Nat) : Int)) (by decide) hF
      have T2 := Lt_at (j := sSkip sGoes t e0) hT (by omega)
      have N2 := LnY_put (a := X 0) (f := 2404) (v := ((sSkip sGoes t e0 : Nat) : Int)) hN (by decide)
      refine zW_gI (by exact k0) rfl ?_
      rw [T2.2.1]
      refine zW_G (by omega) (zW_if (fun z => ?_) (fun z => ?_))
      · rw [if_neg (by omega)] at hok
        refine zW_pieceTok (d := d) (kd := 2) (jj := 11) rfl (by decide) hC (CE_ex hE (yEx_put (P := fun _ => True) (c := 0) (s := 0) yEx_refl (fun _ => trivial))) hB F2 T2 N2 hKW (by omega) (by omega) (fun k h1 h2 => ?_) (fun r H' q => hok _ _ r H' rfl (TkOk_at q))
        by_cases q : k < e0
        · by_cases q2 : k = a
          · rw [q2, h39]; decide
          · have hka : k = a + 1 := by omega
            rw [hka, hb.2.2.2 (by omega)]; decide
        · exact sGoes_lt (sSkip_all (t.length + 1) e0 (by omega) k (by omega) h2)
      · rw [if_pos (by omega)] at her
        exact zW_at F2 (her 1 a _ rfl (ThOk_at (ThOk_thr F2 T2 N2 (Nat.le_succ _) (Nat.le_refl _) (yEx_refl (c := 0) (s := 0)) (by omega) (by omega) (fun _ _ q => q))))
  refine yl_Lexer_variable ?_
  unfold yb_Lexer_variable
  refine zW_gI k0 rfl ?_
  rw [hT.2.1]
  refine zW_let (zW_gI k0 rfl ?_)
  rw [hT.2.1, ycv_lex' hF]
  refine zW_Ie (y_see (k := 1) hF hT (by decide)) (zW_if (fun y => ?_) (fun y => ?_))
  · rw [if_pos (by omega)] at he0
    rw [show ((e0 - a : Nat) : Int) = 2 by omega] at main
    exact main
  · rw [if_neg (by omega)] at he0
    rw [show ((e0 - a : Nat) : Int) = 1 by omega] at main
    exact main
end YName
