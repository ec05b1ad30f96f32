set_option maxRecDepth 100000
/-! THE HOUSE'S LEXER: the next token -/
def NxOk (C : YC) (B : Nat → Prop) (X : Nat → Nat) (t : List Int) (KW : List (List Int)) (cap : Nat) (n : Nat) (H : YS) (k : Tok) (j : Nat) (r : Option Nat) (H' : YS) : Prop := ∃ tk KW' cap', r = some tk ∧ TokY C B H' tk k ∧ Lf C B X H' ∧ Lt X H' t j ∧ LnY B X H' KW' cap' ∧ KW'.length ≤ KW.length + 1 ∧ cap ≤ cap' ∧ yI H' 2405 (X 0) = ((n + (if k.1 = 6 then 0 else 1) : Nat) : Int) ∧ yEx (PL X H) (50 + (j - k.2.1)) (300 + 8 * (j - k.2.1) + 4 * (cap' - cap)) H H' ∧ ∀ x, x < ynx H → PL X H' x → PL X H x
section YNext
variable {B P : Nat → Prop} {C : YC} {X : Nat → Nat} {H H' H1 H3 : YS} {a a' e' s c d f g i j x cap cap' r c0 s0 : Nat} {v e : Int} {t b b' : List Int} {KW KW' : List (List Int)} {Q : Option (Option ZV) → YS → Prop}
theorem single_mem {c : Int} : c ∈ cstr 100 ↔ (c = 40 ∨ c = 41 ∨ c = 91 ∨ c = 93 ∨ c = 123 ∨ c = 125 ∨ c = 44 ∨ c = 59 ∨ c = 95) := by
  show c ∈ [40, 41, 91, 93, 123, 125, 44, 59, 95] ↔ _
  simp only [List.mem_cons, List.not_mem_nil, or_false]
theorem y_single (hC : CW C) (hF : Lf C B X H) (hT : Lt X H t a) (hN : LnY B X H KW cap) (ha : a < t.length) (hm : tch t a ∈ cstr 100)
    (hok : ∀ k j r H', sOther t a = .inr (k, j) → TkOk C B X t KW cap H k j r H' → Q (some (some (.inr (.inr r)))) H') :
    zW (zG (inI ((a : Int) + 1)) <| ypI 2404 0 (some (X 0)) ((a : Int) + 1) H fun h12 => ynew 22 4 h12 fun r13 h14 => ysvR C 10 fun v15 => ygI 2404 (some (X 0)) h14 fun v16 => ygR 2400 (some (X 0)) h14 fun v17 => ygI 2404 (some (X 0)) h14 fun v18 => zG (inI (v18 - 1)) <| zI (ycv (YL C) (d + 6) [(8, 179)] (some (X 0)) [.inl (v18 - 1)] h14) fun v20 h19 => yaR v17 v20 h19 fun v21 => zG (inI (v16 - 1)) <| zV (ycs (YL C) (d + 6) 315 r13 [.inr (.inr v15), .inl (v16 - 1), .inr (.inr v21), .inl 0] h19) fun h22 => zrQ r13 h22) Q := by
  have k0 := hF.1.2.1.1
  have lt := hF.1.1
  have hl := hT.2.2.1.1
  refine zW_G (by omega) (zW_pI k0 (by decide) rfl (zW_new ?_))
  rw [if_neg (by decide), show (a : Int) + 1 = ((a + 1 : Nat) : Int) by omega]
  have F1 := Lf_put (f := 2404) (x := X 0) (v := ((a + 1 : Nat) : Int)) (by decide) hF
  have T1 := Lt_at (j := a + 1) hT (by omega)
  have N1 := LnY_put (a := X 0) (f := 2404) (v := ((a + 1 : Nat) : Int)) hN (by decide)
  have exS : yEx (fun _ => False) 1 4 (yput H 2404 (X 0) ((a + 1 : Nat) : Int)) (ymk (yput H 2404 (X 0) ((a + 1 : Nat) : Int)) 22 0 4) := yEx_mono (yEx_mk (c := 0) (s := 0) yEx_refl) (fun _ _ z => z) (by omega) (by omega)
  have FS := Lf_ex F1 exS PN_F (fun z => z) (fun z => z) (fun z => z)
  have TS := Lt_ex F1 T1 exS (fun z => z) (fun z => z)
  have NS := LnY_ex F1 N1 exS PN_F (fun z => z) (fun z => z) (fun z => z) (fun _ _ _ z => z)
  have ks := FS.1.2.1.1
  have n43 := FS.1.2.2.2.1.1
  have kk := FS.1.2.1.2.1
  refine zW_svR (zW_gI ks rfl (zW_gR ks rfl (zW_gI ks rfl ?_)))
  rw [TS.2.1, FS.1.2.2.1.1, ycv_lex' FS]
  refine zW_G (by omega) ?_
  rw [show ((a + 1 : Nat) : Int) - 1 = (a : Int) by omega]
  have hsl : sl t a (a + 1 - a) = [tch t a] := by
    rw [show a + 1 - a = 0 + 1 by omega, sl_snoc (by omega)]
    show (t.drop a).take 0 ++ _ = _
    rw [List.take_zero]; rfl
  have hmem : ∀ c ∈ cstr 100, [c] ∈ sKeptH := by decide
  have hk1 := hmem _ hm
  refine zW_I (P := fun v H2 => H2 = ymk (yput H 2404 (X 0) ((a + 1 : Nat) : Int)) 22 0 4 ∧ ∃ k : Nat, k < 43 ∧ v = (k : Int) ∧ sKeptH.getD k [] = [tch t a]) (T := fun _ => False) (zW_c (zW_mono (y_kept (d := d) hC FS TS (Nat.le_succ _)) ?_)) ?_ (fun _ q => q.elim)
  · rintro o H2 ⟨q1, ⟨rfl, q2⟩ | ⟨k, q2, rfl, q3⟩⟩
    · rw [hsl] at q2; exact absurd hk1 q2
    · rw [hsl] at q3; exact ⟨q1, k, q2, rfl, q3⟩
  · rintro v H2 ⟨rfl, k, hk, rfl, hkk⟩
    refine zW_aR (by omega) (by omega) ?_
    rw [FS.1.2.2.2.2.2 k hk]
    have hw := cstr_w hk
    have hS := FS.2 (2 + k) hw.1
    rw [hw.2, hkk] at hS
    refine zW_G (by omega) (zW_tok (k := (0, a, [tch t a], 0)) (H := yput H 2404 (X 0) ((a + 1 : Nat) : Int)) (KW' := KW) (cap' := cap) lt (Nat.le_refl _) (Nat.lt_succ_self _) (by rw [ymk_K, if_pos rfl]) rfl hS FS TS NS (Nat.le_succ _) (Nat.le_refl _) ((exS.1 (X 0) (lt 0 (by decide)) (fun z => z)).1 2405) (yEx_mono exS (fun _ _ z => z.elim) (Nat.le_refl _) (Nat.le_refl _)) (by omega) (by omega) (PL_ex F1 exS (fun z => z)) (fun H' q => hok _ (a + 1) _ H' ?_ (TkOk_at q)))
    unfold sOther
    have h9 := single_mem.mp hm
    rw [if_neg (by omega), if_pos h9]
    unfold sNamed
    rw [if_neg (by omega), hsl, if_pos (sKept_iff.mpr (Or.inl hk1))]
theorem y_next {n : Nat} (hKD : C.2.2.1 13 ≠ C.2.2.1 14) (hC : CW C) (hE : CE C H) (hB : ∀ x, B x → x < ynx H) (hF : Lf C B X H) (hT : Lt X H t i) (hN : LnY B X H KW cap) (hKW : KW.length ≤ n) (hn : yI H 2405 (X 0) = (n : Int)) (hn2 : n ≤ 1000)
    (hok : ∀ k j r H', sRead t n i = .inr (k, j) → NxOk C B X t KW cap n H k j r H' → Q (some (some (.inr (.inr r)))) H') (her : ∀ (e : Int) p H', sRead t n i = .inl (e, p) → ThOk C B X t KW cap H e p H' → Q none H') :
    zW (YL C (d + 10) 170 [zr (X 0)] H) Q := by
  have lt := hF.1.1
  have hl := hT.2.2.1.1
  unfold sRead at hok her
  refine y_next_gaps (d := d + 5) (t.length + 1) i H (by have := hT.2.2.2.1; omega) hF hT (fun k e p h hk => ?_) (fun j h g1 g2 => ?_)
  · rw [h] at her
    exact her e p _ rfl (ThOk_at (ThOk_thr (Lf_put (by decide) hF) (Lt_at hT hk) (LnY_put hN (by decide)) (Nat.le_succ _) (Nat.le_refl _) (yEx_refl (c := 0) (s := 0)) (by omega) (by omega) (fun _ _ q => q)))
  · rw [h] at hok her
    dsimp only at hok her
    have F1 := Lf_put (f := 2404) (x := X 0) (v := (j : Int)) (by decide) hF
    have T1 := Lt_at (j := j) hT g2
    have N1 := LnY_put (a := X 0) (f := 2404) (v := (j : Int)) hN (by decide)
    have n1 : yI (yput H 2404 (X 0) (j : Int)) 2405 (X 0) = (n : Int) := (yput_f (by decide)).trans hn
    have ex1 : yEx (PL X H) 0 0 H (yput H 2404 (X 0) (j : Int)) := yEx_put yEx_refl (fun _ => Or.inl rfl)
    have M1 : ∀ x, x < ynx H → PL X (yput H 2404 (X 0) (j : Int)) x → PL X H x := fun _ _ q => q
    have E1 : CE C (yput H 2404 (X 0) (j : Int)) := CE_put hE
    have B1 : ∀ x, B x → x < ynx (yput H 2404 (X 0) (j : Int)) := hB
    have L1 : ∀ k, k < 8 → X k < ynx (yput H 2404 (X 0) (j : Int)) := lt
    have X1 : ynx (yput H 2404 (X 0) (j : Int)) = ynx H := rfl
    generalize yput H 2404 (X 0) (j : Int) = Hj at *
    have kj := F1.1.2.1.1
    refine yl_Lexer_next_p72 ?_
    unfold yb_Lexer_next_p72
    refine zW_gI kj rfl (zW_gI kj rfl ?_)
    rw [T1.1, T1.2.1]
    refine zW_if (fun y => ?_) (fun y => ?_)
    · rw [if_neg (by omega)] at hok her
      have hj : j < t.length := by omega
      refine zW_gI kj rfl ?_
      rw [n1]
      refine zW_G (by omega) (zW_pI kj (by decide) rfl (zW_gI (by exact kj) rfl ?_))
      have F4 := Lf_put (f := 2405) (x := X 0) (v := (n : Int) + 1) (by decide) F1
      have T4 := Lt_put (f := 2405) (x := X 0) (v := (n : Int) + 1) (by decide) T1
      have N4 := LnY_put (a := X 0) (f := 2405) (v := (n : Int) + 1) N1 (by decide)
      have ex4 : yEx (PL X H) 0 0 H (yput Hj 2405 (X 0) ((n : Int) + 1)) := yEx_put ex1 (fun _ => Or.inl rfl)
      have M4 : ∀ x, x < ynx H → PL X (yput Hj 2405 (X 0) ((n : Int) + 1)) x → PL X H x := M1
      have n4 : yI (yput Hj 2405 (X 0) ((n : Int) + 1)) 2405 (X 0) = (n : Int) + 1 := yput_at
      have E4 : CE C (yput Hj 2405 (X 0) ((n : Int) + 1)) := CE_put E1
      have B4 : ∀ x, B x → x < ynx (yput Hj 2405 (X 0) ((n : Int) + 1)) := B1
      have X4 : ynx (yput Hj 2405 (X 0) ((n : Int) + 1)) = ynx H := X1
      rw [n4]
      generalize yput Hj 2405 (X 0) ((n : Int) + 1) = H4 at *
      have k4 := F4.1.2.1.1
      have hin := tc0_in hT.2.2.1 j
      have hin1 := tc0_in hT.2.2.1 (j + 1)
      have ec : tc0 t j = tch t j := by omega
      refine zW_if (fun y1 => ?_) (fun y1 => ?_)
      · rw [if_neg (by omega)] at hok her
        -- what the parts give
        have hok' : ∀ k j' r H', sTok t j = .inr (k, j') → TkOk C B X t KW cap H4 k j' r H' → Q (some (some (.inr (.inr r)))) H' := by
          rintro k j' r H' q1 ⟨tk, KW', cap', p1, p2, p3, p4, p5, p6, p7, p8, p9, p10⟩
          have hk := sTok_in hT.2.2.1 hj q1
          refine hok k j' r H' q1 ⟨tk, KW', cap', p1, p2, p3, p4, p5, p6, p7, ?_, ?_, fun x hx q => M4 x hx (p10 x (by omega) q)⟩
          · rw [p8, n4, if_neg (by have := hk.1; omega)]; omega
          · exact yEx_mono (yEx_trans ex4 p9 (fun x hx q => M4 x hx q)) (fun _ _ z => z) (by omega) (by omega)
        have her' : ∀ (e : Int) p H', sTok t j = .inl (e, p) → ThOk C B X t KW cap H4 e p H' → Q none H' := by
          rintro e p H' q1 ⟨KW', cap', j', p1, p2, p3, p4, p5, p6, p7, p8, p9⟩
          refine her e p H' q1 ⟨KW', cap', j', p1, p2, p3, p4, p5, p6, p7, ?_, fun x hx q => M4 x hx (p9 x (by omega) q)⟩
          exact yEx_mono (yEx_trans ex4 p8 (fun x hx q => M4 x hx q)) (fun _ _ z => z) (by omega) (by omega)
        clear hok her
        have eT : sTok t j = if sLetter (tch t j) = true then sName t j else if tch t j = 39 then sVar t j else if sDigit (tch t j) = true ∨ (tch t j = 126 ∧ sDigit (tch t (j + 1)) = true) then sInt t j else if tch t j = 34 then sString t j else if tch t j = 35 ∧ tch t (j + 1) = 34 then sChar t j else if sSign (tch t j) = true then sSigns t j else sOther t j := rfl
        have c920 : (sTok t j = if sSign (tch t j) = true then sSigns t j else sOther t j) → zW (YL C (d + 10) 920 [zr (X 0), .inl (tch t j)] H4) Q := by
          intro e1
          refine yl_Lexer_next_p242 ?_
          unfold yb_Lexer_next_p242
          refine zW_if (fun z => ?_) (fun z => ?_)
          · have hns : ¬ sSign (tch t j) = true := fun q => (sSign_in q).2.2 z
            rw [if_neg hns] at e1
            rw [ycv_lex' F4]
            exact fin_Q (zW_c (y_dots (d := d + 7) E4 F4 T4 N4 z (fun k j' r H' q1 q2 => hok' k j' r H' (e1.trans q1) q2) (fun e p H' q1 q2 => her' e p H' (e1.trans q1) q2)))
          · have hS := F4.2 100 (by decide)
            rw [zchar_x (by omega), ycv_str hS.2.1]
            refine zW_I (P := fun v S' => S' = H4 ∧ (0 ≤ v ↔ tch t j ∈ cstr 100)) (T := fun _ => False) (zW_c (zW_mono (y_indexOf (d := d + 6) hC hS (by decide) (by omega)) ?_)) ?_ (fun _ q => q.elim)
            · rintro o S' ⟨q1, v, rfl, q2⟩
              exact ⟨q1, q2⟩
            · rintro v S' ⟨rfl, hv⟩
              refine zW_if (fun z1 => ?_) (fun z1 => ?_)
              · have hnm : ¬ tch t j ∈ cstr 100 := fun q => by have := hv.mpr q; omega
                refine zW_Ie (y_isSign (d := d + 5) hC F4 (by omega)) (zW_if (fun z2 => ?_) (fun z2 => ?_))
                · rw [bI_0] at z2
                  rw [if_neg (by rw [z2]; exact fun q => by cases q)] at e1
                  refine zW_wrong F4 T4 (her' 1 j _ ?_ (ThOk_thr F4 T4 N4 (Nat.le_succ _) (Nat.le_refl _) (yEx_refl (c := 0) (s := 0)) (by omega) (by omega) (fun _ _ q => q)))
                  rw [e1]
                  unfold sOther
                  rw [if_neg z, if_neg (fun q => hnm (single_mem.mpr q))]
                · rw [bI_1] at z2
                  rw [if_pos z2] at e1
                  rw [ycv_lex' F4]
                  exact fin_Q (zW_c (y_signs (d := d) hC E4 B4 F4 T4 N4 (by omega) z2 (fun k j' r H' q1 q2 => hok' k j' r H' (e1.trans q1) q2) (fun e p H' q1 q2 => her' e p H' (e1.trans q1) q2)))
              · have hm : tch t j ∈ cstr 100 := hv.mp (by omega)
                have hns : ¬ sSign (tch t j) = true := fun q => by
                  have h9 := single_mem.mp hm
                  have := of_decide_eq_true q
                  omega
                rw [if_neg hns] at e1
                refine zW_gI k4 rfl ?_
                rw [T4.2.1]
                exact y_single (d := d + 4) hC F4 T4 N4 hj hm (fun k j' r H' q1 q2 => hok' k j' r H' (e1.trans q1) q2)
        have c811 : (sTok t j = if tch t j = 34 then sString t j else if tch t j = 35 ∧ tch t (j + 1) = 34 then sChar t j else if sSign (tch t j) = true then sSigns t j else sOther t j) → zW (YL C (d + 10) 811 [zr (X 0), .inl (tch t j)] H4) Q := by
          intro e1
          refine yl_Lexer_next_p196 ?_
          unfold yb_Lexer_next_p196
          refine zW_if (fun z => ?_) (fun z => ?_)
          · rw [if_pos z] at e1
            unfold sString at e1
            refine zW_gI k4 rfl (zW_svR ?_)
            rw [T4.2.1, ycv_lex' F4]
            refine fin_Q (zW_c (y_quoted (d := d + 3) (kd := 4) (jj := 13) (d0 := 1) (Or.inl ⟨rfl, rfl, rfl⟩) hKD hC B4 F4 T4 N4 (by omega) (fun b j' r H' q1 q2 q3 => hok' _ j' r H' ?_ q3) (fun p H' q1 q2 => her' 1 p H' ?_ q2) (fun b j' H' q1 q2 q3 => her' 1 j H' ?_ q3)))
            · rw [e1, q1]; dsimp only
              rw [if_neg (by decide)] at q2
              rw [if_neg (by omega)]; rfl
            · rw [e1, q1]
            · rw [e1, q1]; dsimp only
              rw [if_neg (by decide)] at q2
              rw [if_pos (by omega)]
          · rw [if_neg z] at e1
            refine zW_if (fun z1 => ?_) (fun z1 => c920 (by rw [e1, if_neg (fun q => z1 q.1)]))
            rw [ycv_lex' F4]
            refine zW_Ie (y_see (k := 1) F4 T4 (by decide)) (zW_if (fun z2 => ?_) (fun z2 => c920 (by rw [e1, if_neg (fun q => z2 (by omega))])))
            rw [if_pos ⟨z1, by omega⟩] at e1
            unfold sChar at e1
            refine zW_gI k4 rfl (zW_svR ?_)
            rw [T4.2.1, ycv_lex' F4]
            refine fin_Q (zW_c (y_quoted (d := d + 3) (kd := 5) (jj := 14) (d0 := 2) (Or.inr ⟨rfl, rfl, rfl⟩) hKD hC B4 F4 T4 N4 (by omega) (fun b j' r H' q1 q2 q3 => hok' _ j' r H' ?_ q3) (fun p H' q1 q2 => her' 1 p H' ?_ q2) (fun b j' H' q1 q2 q3 => her' 1 j H' ?_ q3)))
            · rw [e1, q1]; dsimp only
              rw [if_pos rfl] at q2
              rw [if_neg (fun q => q q2)]; rfl
            · rw [e1, q1]
            · rw [e1, q1]; dsimp only
              rw [if_pos rfl] at q2
              rw [if_pos q2]
        rw [ycv_lex' F4]
        refine zW_Ie (y_see (k := 0) F4 T4 (by decide)) ?_
        rw [show j + 0 = j from rfl, ec]
        refine zW_let (zW_Ie y_isLetter (zW_if (fun z => ?_) (fun z => ?_)))
        · rw [bI_0] at z
          rw [if_neg (by rw [z]; exact fun q => by cases q)] at eT
          refine zW_if (fun z1 => ?_) (fun z1 => ?_)
          · rw [if_pos z1] at eT
            rw [ycv_lex' F4]
            exact fin_Q (zW_c (y_variable (d := d + 1) hC E4 B4 F4 T4 N4 (by omega) z1 (fun k j' r H' q1 q2 => hok' k j' r H' (eT.trans q1) q2) (fun e p H' q1 q2 => her' e p H' (eT.trans q1) q2)))
          · rw [if_neg z1] at eT
            have num : (sTok t j = sInt t j) → zW (zQ (ycv (YL C) (d + 10) [(8, 183)] (some (X 0)) [] H4) fun v h => zrQ v h) Q := by
              intro e1
              rw [ycv_lex' F4]
              exact fin_Q (zW_c (y_number (d := d + 7) F4 T4 N4 hj (fun k j' r H' q1 q2 => hok' k j' r H' (e1.trans q1) q2) (fun e p H' q1 q2 => her' e p H' (e1.trans q1) q2)))
            refine zW_Ie y_isDigit (zW_if (fun z2 => ?_) (fun z2 => ?_))
            · rw [bI_0] at z2
              refine zW_if (fun z3 => ?_) (fun z3 => c811 (by rw [eT, if_neg (by rw [z2]; exact fun q => q.elim (fun q => by cases q) (fun q => z3 q.1))]))
              rw [ycv_lex' F4]
              refine zW_Ie (y_see (k := 1) F4 T4 (by decide)) (zW_Ie y_isDigit ?_)
              rw [sDigit_0 hT.2.2.1]
              refine zW_if (fun z4 => c811 ?_) (fun z4 => num ?_)
              · rw [bI_0] at z4
                rw [eT, if_neg (by rw [z2, z4]; exact fun q => q.elim (fun q => by cases q) (fun q => by cases q.2))]
              · rw [bI_1] at z4
                rw [eT, if_pos (Or.inr ⟨z3, z4⟩)]
            · rw [bI_1] at z2
              exact num (by rw [eT, if_pos (Or.inl z2)])
        · rw [bI_1] at z
          rw [if_pos z] at eT
          refine zW_gI k4 rfl ?_
          rw [T4.2.1, ycv_lex' F4]
          exact fin_Q (zW_c (y_name (d := d) hC E4 B4 F4 T4 N4 (by omega) z (fun k j' r H' q1 q2 => hok' k j' r H' (eT.trans q1) q2) (fun e p H' q1 q2 => her' e p H' (eT.trans q1) q2)))
      · rw [if_pos (by omega)] at her
        have hw := zW_at (d := d + 9) (n := 4) (p := (j : Int)) F4 (her 4 j _ rfl (ThOk_thr (KW := KW) (cap := cap) F4 T4 N4 (Nat.le_succ _) (Nat.le_refl _) ex4 (by omega) (by omega) M4))
        refine zW_gR k4 rfl (zW_gI k4 rfl ?_)
        rw [T4.2.1]
        obtain ⟨o, S', q1, q2⟩ := hw
        refine ⟨o, S', ?_, q2⟩
        rw [← q1]
        unfold ygR
        dsimp only
        rw [if_pos (by rw [k4]; rfl)]
    · have hjt : j = t.length := by omega
      rw [if_pos hjt] at hok
      have exS : yEx (fun _ => False) 1 4 Hj (ymk Hj 22 0 4) := yEx_mono (yEx_mk (c := 0) (s := 0) yEx_refl) (fun _ _ z => z) (by omega) (by omega)
      have FS := Lf_ex F1 exS PN_F (fun z => z) (fun z => z) (fun z => z)
      have TS := Lt_ex F1 T1 exS (fun z => z) (fun z => z)
      have NS := LnY_ex F1 N1 exS PN_F (fun z => z) (fun z => z) (fun z => z) (fun _ _ _ z => z)
      refine zW_new ?_
      rw [if_neg (by decide)]
      refine zW_svR (zW_gI FS.1.2.1.1 rfl ?_)
      rw [TS.1, show (t.length : Int) = ((j : Nat) : Int) by omega]
      refine zW_tok (k := (6, j, [], 0)) (H := Hj) (KW' := KW) (cap' := cap) L1 (Nat.le_refl _) (Nat.lt_succ_self _) (by rw [ymk_K, if_pos rfl]) rfl (FS.2 97 (by decide)) FS TS NS (Nat.le_succ _) (Nat.le_refl _) ((exS.1 (X 0) (L1 0 (by decide)) (fun z => z)).1 2405) (yEx_mono exS (fun _ _ z => z.elim) (Nat.le_refl _) (Nat.le_refl _)) (by omega) (by omega) (PL_ex F1 exS (fun z => z)) ?_
      rintro H' ⟨tk, KW', cap', p1, p2, p3, p4, p5, p6, p7, p8, p9, p10⟩
      refine hok _ j _ H' rfl ⟨tk, KW', cap', p1, p2, p3, p4, p5, p6, p7, ?_, ?_, fun x hx q => M1 x hx (p10 x (by omega) q)⟩
      · rw [p8, n1]; rfl
      · exact yEx_mono (yEx_trans ex1 p9 (fun x hx q => M1 x hx q)) (fun _ _ z => z) (by omega) (by omega)
end YNext
