set_option maxRecDepth 100000
/-! THE HOUSE'S LEXER: signs, dots, ints -/
section YSigns
variable {B P : Nat → Prop} {C : YC} {X : Nat → Nat} {H H' H1 H3 : YS} {a a' e' s d f g i j x cap cap' r c0 s0 : Nat} {v e : Int} {t b b' : List Int} {KW KW' : List (List Int)} {Q : Option (Option ZV) → YS → Prop}
theorem fin_Q {x : ZR YS} (h : zW x (oQ (fun r S' => Q (some (some (.inr (.inr r)))) S') (fun S' => Q none S'))) : zW (zQ x fun v h => zrQ v h) Q := zW_Q h (fun r S' q => zW_rQ q) (fun S' q => q)
theorem CE_put {f a : Nat} {v : Int} (hE : CE C H) : CE C (yput H f a v) := CE_ex hE (yEx_put (P := fun _ => True) (c := 0) (s := 0) yEx_refl (fun _ => trivial))
theorem sSign_in {c : Int} (h : sSign c = true) : 32 < c ∧ c < 128 ∧ c ≠ 46 := by
  have := of_decide_eq_true h
  omega
theorem y_signs (hC : CW C) (hE : CE C H) (hB : ∀ x, B x → x < ynx H) (hF : Lf C B X H) (hT : Lt X H t a) (hN : LnY B X H KW cap) (hKW : KW.length ≤ 1000) (hs : sSign (tch t a) = true)
    (hok : ∀ k j r H', sSigns t a = .inr (k, j) → TkOk C B X t KW cap H k j r H' → Q (some (some (.inr (.inr r)))) H') (her : ∀ (e : Int) p H', sSigns t a = .inl (e, p) → ThOk C B X t KW cap H e p H' → Q none H') :
    zW (YL C (d + 9) 187 [zr (X 0)] H) Q := by
  have k0 := hF.1.2.1.1
  have hl := hT.2.2.1.1
  have hia := tc0_in hT.2.2.1 a
  have hsa := sSign_in hs
  unfold sSigns at hok her
  have loop : ∀ n i : Nat, t.length < n + i → a ≤ i → i < t.length → sSignEnd t (i + 1) = sSignEnd t (a + 1) → (∀ k, a ≤ k → k ≤ i → sSign (tch t k) = true) → zW (YL C (d + 9) 629 [zr (X 0), .inl (a : Int), .inl 1] (yput H 2404 (X 0) (i : Int))) Q := by
    intro n
    induction n with
    | zero => intro i q1 q2 q3; omega
    | succ n ih =>
      intro i q1 q2 q3 q4 q5
      have F0 := Lf_put (f := 2404) (x := X 0) (v := (i : Int)) (by decide) hF
      have F1 := Lf_put (f := 2404) (x := X 0) (v := ((i + 1 : Nat) : Int)) (by decide) hF
      have T1 := Lt_at (j := i + 1) hT (by omega)
      have N1 := LnY_put (a := X 0) (f := 2404) (v := ((i + 1 : Nat) : Int)) hN (by decide)
      have hin := tc0_in hT.2.2.1 (i + 1)
      have hin2 := tc0_in hT.2.2.1 (i + 2)
      have stop : sSignEnd t (i + 1) = i + 1 → zW (YL C (d + 9) 629 [zr (X 0), .inl (a : Int), .inl 0] (yput H 2404 (X 0) ((i + 1 : Nat) : Int))) Q := by
        intro he
        rw [← q4, he] at hok her
        refine yl_Lexer_signs_p7 ?_
        unfold yb_Lexer_signs_p7
        rw [ycv_lex' F1]
        refine zW_t rfl (fin_Q (zW_c (y_named (d := d) hC (CE_put hE) hB F1 T1 N1 hKW (by omega) (fun k h1 h2 => (sSign_in (q5 k h1 (by omega))).2.1) (fun q => ?_) (fun k j r H' q1 q2 => hok k j r H' q1 (TkOk_at q2)) (fun e p H' q1 q2 => her e p H' q1 (ThOk_at q2)))))
        have := sl_0 (by omega) (by omega) q
        have h46 : ([46, 46, 46] : List Int).getD 0 0 = 46 := rfl
        omega
      have go : sSign (tch t (i + 1)) = true → ¬ (tch t (i + 1) = 126 ∧ sDigit (tch t (i + 2)) = true) → ¬ (tch t (i + 1) = 35 ∧ tch t (i + 2) = 34) → zW (YL C (d + 9) 629 [zr (X 0), .inl (a : Int), .inl 1] (yput H 2404 (X 0) ((i + 1 : Nat) : Int))) Q := by
        intro h1 h2 h3
        have := sSign_in h1
        refine ih (i + 1) (by omega) (by omega) (by omega) ?_ (fun k k1 k2 => ?_)
        · rw [← q4]
          exact (sSignEnd_go ⟨by omega, h1, h2, h3⟩).symm
        · by_cases e : k = i + 1
          · rw [e]; exact h1
          · exact q5 k k1 (by omega)
      refine yl_Lexer_signs_p7 ?_
      unfold yb_Lexer_signs_p7
      refine zW_f (by decide) (zW_gI (by exact k0) rfl ?_)
      rw [show yI (yput H 2404 (X 0) (i : Int)) 2404 (X 0) = (i : Int) from yput_at]
      refine zW_G (by omega) (zW_pI (by exact k0) (by decide) rfl ?_)
      rw [yput_put, show (i : Int) + 1 = ((i + 1 : Nat) : Int) by omega, ycv_lex' F1]
      have e0 : tc0 t (i + 1 + 0) = tc0 t (i + 1) := rfl
      refine zW_Ie (y_see (k := 0) F1 T1 (by decide)) (zW_let ?_)
      rw [e0]
      have sS : sSign (tc0 t (i + 1)) = sSign (tch t (i + 1)) := by
        rcases hin with q | q
        · rw [q.2.1]
        · rw [q.2.1, q.2.2]; rfl
      refine zW_Ie (y_isSign (d := d + 4) hC F1 (by omega)) (zW_if (fun y => ?_) (fun y => ?_))
      · rw [bI_0, sS] at y
        exact zW_let (stop (by rw [sSignEnd, if_neg (fun q => by rw [y] at q; cases q.2.1)]))
      · rw [bI_1, sS] at y
        have hy := sSign_in y
        have c2 : ¬ (tch t (i + 1) = 126 ∧ sDigit (tch t (i + 2)) = true) → zW (YL C (d + 9) 816 [zr (X 0), .inl (a : Int), .inl (tc0 t (i + 1))] (yput H 2404 (X 0) ((i + 1 : Nat) : Int))) Q := by
          intro h2
          refine yl_Lexer_signs_p51 ?_
          unfold yb_Lexer_signs_p51
          refine zW_if (fun z => ?_) (fun z => zW_let (go y h2 (fun q => z (by omega))))
          rw [ycv_lex' F1]
          refine zW_Ie (y_see (k := 1) F1 T1 (by decide)) (zW_if (fun z1 => zW_let (stop ?_)) (fun z1 => zW_let (go y h2 (fun q => z1 (by show tc0 t (i + 2) = 34; omega)))))
          have z1 : tc0 t (i + 2) = 34 := z1
          rw [sSignEnd, if_neg (fun q => q.2.2.2 ⟨by omega, by show tch t (i + 2) = 34; omega⟩)]
        refine zW_if (fun z => ?_) (fun z => c2 (fun q => z (by omega)))
        rw [ycv_lex' F1]
        refine zW_Ie (y_see (k := 1) F1 T1 (by decide)) (zW_Ie y_isDigit ?_)
        have sD : sDigit (tc0 t (i + 1 + 1)) = sDigit (tch t (i + 2)) := by
          show sDigit (tc0 t (i + 2)) = _
          rcases hin2 with q | q
          · rw [q.2.1]
          · rw [q.2.1, q.2.2]; rfl
        refine zW_if (fun z1 => c2 (fun q => ?_)) (fun z1 => zW_let (stop ?_))
        · rw [bI_0, sD] at z1
          rw [z1] at q
          cases q.2
        · rw [bI_1, sD] at z1
          rw [sSignEnd, if_neg (fun q => q.2.2.1 ⟨by omega, z1⟩)]
  refine yl_Lexer_signs ?_
  unfold yb_Lexer_signs
  refine zW_gI k0 rfl ?_
  rw [hT.2.1]
  refine zW_let (zW_let ?_)
  have := loop (t.length + 1) a (by omega) (Nat.le_refl _) (by omega) rfl (fun k h1 h2 => by rw [show k = a by omega]; exact hs)
  rw [yput_self hT.2.1] at this
  exact this
theorem sl_3 (h : a + 3 ≤ t.length) : sl t a 3 = [tch t a, tch t (a + 1), tch t (a + 2)] := by
  rw [sl_snoc (n := 2) (by omega), sl_snoc (n := 1) (by omega), sl_snoc (n := 0) (by omega)]
  show (((t.drop a).take 0 ++ _) ++ _) ++ _ = _
  rw [List.take_zero]
  rfl
theorem y_dots (hE : CE C H) (hF : Lf C B X H) (hT : Lt X H t a) (hN : LnY B X H KW cap) (h46 : tch t a = 46)
    (hok : ∀ k j r H', sOther t a = .inr (k, j) → TkOk C B X t KW cap H k j r H' → Q (some (some (.inr (.inr r)))) H') (her : ∀ (e : Int) p H', sOther t a = .inl (e, p) → ThOk C B X t KW cap H e p H' → Q none H') :
    zW (YL C (d + 2) 186 [zr (X 0)] H) Q := by
  have k0 := hF.1.2.1.1
  have lt := hF.1.1
  have hl := hT.2.2.1.1
  have hia := tc0_in hT.2.2.1 a
  unfold sOther at hok her
  rw [if_pos h46] at hok her
  have loop : ∀ n k : Nat, 3 < n + k → k ≤ 3 → a + k ≤ t.length → (∀ j, j < k → tch t (a + j) = 46) → zW (YL C (d + 2) 628 [zr (X 0), .inl (a : Int), .inl (k : Int)] (yput H 2404 (X 0) ((a + k : Nat) : Int))) Q := by
    intro n
    induction n with
    | zero => intro k q1 q2; omega
    | succ n ih =>
      intro k q1 q2 q3 q4
      have F1 := Lf_put (f := 2404) (x := X 0) (v := ((a + k : Nat) : Int)) (by decide) hF
      have T1 := Lt_at (j := a + k) hT q3
      have N1 := LnY_put (a := X 0) (f := 2404) (v := ((a + k : Nat) : Int)) hN (by decide)
      have hin := tc0_in hT.2.2.1 (a + k)
      refine yl_Lexer_dots_p7 ?_
      unfold yb_Lexer_dots_p7
      refine zW_if (fun y => ?_) (fun y => ?_)
      · rw [ycv_lex' F1]
        refine zW_Ie (y_see (k := 0) F1 T1 (by decide)) ?_
        rw [show a + k + 0 = a + k from rfl]
        refine zW_if (fun z => ?_) (fun z => zW_wrong F1 T1 (her 1 (a + k) _ ?_ (ThOk_at (ThOk_thr F1 T1 N1 (Nat.le_succ _) (Nat.le_refl _) (yEx_refl (c := 0) (s := 0)) (by omega) (by omega) (fun _ _ q => q)))))
        · refine zW_gI (by exact k0) rfl ?_
          rw [T1.2.1]
          refine zW_G (by omega) (zW_pI (by exact k0) (by decide) rfl (zW_G (by omega) (zW_let ?_)))
          rw [yput_put, show ((a + k : Nat) : Int) + 1 = ((a + (k + 1) : Nat) : Int) by omega, show (k : Int) + 1 = ((k + 1 : Nat) : Int) by omega]
          refine ih (k + 1) (by omega) (by omega) (by omega) (fun j hj => ?_)
          by_cases e : j = k
          · rw [e]; omega
          · exact q4 j (by omega)
        · have hk : k = 0 ∨ k = 1 ∨ k = 2 := by omega
          rcases hk with rfl | rfl | rfl
          · exact absurd h46 (by rw [show a + 0 = a from rfl] at *; omega)
          · rw [if_pos (by omega)]
          · have h1 := q4 1 (by omega)
            rw [if_neg (by rw [h1]; exact fun q => q rfl), if_pos (by omega)]
      · have hk : k = 3 := by omega
        subst hk
        have h1 := q4 1 (by omega)
        have h2 := q4 2 (by omega)
        rw [if_neg (by rw [h1]; exact fun q => q rfl), if_neg (by rw [h2]; exact fun q => q rfl)] at hok
        have hsl : sl t a (a + 3 - a) = [46, 46, 46] := by
          rw [show a + 3 - a = 3 by omega, sl_3 q3, h46, h1, h2]
        have exS : yEx (fun _ => False) 1 4 (yput H 2404 (X 0) ((a + 3 : Nat) : Int)) (ymk (yput H 2404 (X 0) ((a + 3 : Nat) : Int)) 22 0 4) := yEx_mono (yEx_mk (c := 0) (s := 0) yEx_refl) (fun _ _ z => z) (by omega) (by omega)
        have FS := Lf_ex F1 exS PN_F (fun z => z) (fun z => z) (fun z => z)
        have TS := Lt_ex F1 T1 exS (fun z => z) (fun z => z)
        have NS := LnY_ex F1 N1 exS PN_F (fun z => z) (fun z => z) (fun z => z) (fun _ _ _ z => z)
        refine zW_new ?_
        rw [if_neg (by decide)]
        refine zW_svR ?_
        refine zW_tok (k := (0, a, [46, 46, 46], 0)) (H := yput H 2404 (X 0) ((a + 3 : Nat) : Int)) (KW' := KW) (cap' := cap) lt (Nat.le_refl _) (Nat.lt_succ_self _) (by rw [ymk_K, if_pos rfl]) rfl (FS.2 99 (by decide)) FS TS NS (Nat.le_succ _) (Nat.le_refl _) ((exS.1 (X 0) (lt 0 (by decide)) (fun z => z)).1 2405) (yEx_mono exS (fun _ _ z => z.elim) (Nat.le_refl _) (Nat.le_refl _)) (by omega) (by omega) (PL_ex F1 exS (fun z => z)) (fun H' q => hok _ (a + 3) _ H' ?_ (TkOk_at q))
        unfold sNamed
        rw [if_neg (by omega), hsl, if_pos (by decide)]
  refine yl_Lexer_dots ?_
  unfold yb_Lexer_dots
  refine zW_gI k0 rfl ?_
  rw [hT.2.1]
  refine zW_let (zW_let ?_)
  have := loop 4 0 (by omega) (by omega) (by omega) (fun j hj => by omega)
  rw [show a + 0 = a from rfl, yput_self hT.2.1] at this
  exact this
end YSigns
