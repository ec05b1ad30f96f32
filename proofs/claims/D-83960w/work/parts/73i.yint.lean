set_option maxRecDepth 100000
/-! THE HOUSE'S LEXER: ints, signs behind \ -/
section YInt
variable {B P : Nat → Prop} {C : YC} {X : Nat → Nat} {H H' H1 H3 : YS} {a a' e' s d f g i j x cap cap' r c0 s0 : Nat} {v e : Int} {t b b' : List Int} {KW KW' : List (List Int)} {Q : Option (Option ZV) → YS → Prop}
theorem y_min2 {x y : Int} : YL C d 923 [.inr (.inl x), .inr (.inl y)] H = some (some (some (.inr (.inl (if x ≤ y then x else y)))), H) := by
  refine zW_get (yl_Math_min_2 ?_)
  unfold yb_Math_min_2
  exact zW_if (fun q => zW_rL ⟨by rw [if_pos q], rfl⟩) (fun q => zW_rL ⟨by rw [if_neg q], rfl⟩)
theorem sDigit_0 (hT : tOK t) : sDigit (tc0 t i) = sDigit (tch t i) := by
  rcases tc0_in hT i with q | q
  · rw [q.2.1]
  · rw [q.2.1, q.2.2]; rfl
theorem y_number (hF : Lf C B X H) (hT : Lt X H t a) (hN : LnY B X H KW cap) (ha : a < t.length)
    (hok : ∀ k j r H', sInt t a = .inr (k, j) → TkOk C B X t KW cap H k j r H' → Q (some (some (.inr (.inr r)))) H') (her : ∀ (e : Int) p H', sInt t a = .inl (e, p) → ThOk C B X t KW cap H e p H' → Q none H') :
    zW (YL C (d + 2) 183 [zr (X 0)] H) Q := by
  have k0 := hF.1.2.1.1
  have lt := hF.1.1
  have hl := hT.2.2.1.1
  have hia := tc0_in hT.2.2.1 a
  have loop : ∀ (b : Int) (bs : List Int) (cs : Nat) (e0 : Nat), (b = 0 ∧ bs = [] ∧ cs = 97 ∨ b = 1 ∧ bs = [126] ∧ cs = 98) → a ≤ e0 → (sInt t a = if (sNum t e0 0).1 > (if b = 0 then 2147483647 else 2147483648) then .inl (1, a) else .inr ((3, a, bs, if b = 0 then (sNum t e0 0).1 else -(sNum t e0 0).1), (sNum t e0 0).2)) →
      ∀ (n i : Nat) (x v : Int), t.length < n + i → e0 ≤ i → i ≤ t.length → sNum t i v = sNum t e0 0 → 0 ≤ v → 0 ≤ x → x ≤ 1099511627776 → (x = v ∨ (2147483648 < x ∧ 2147483648 < v)) → zW (YL C (d + 2) 814 [zr (X 0), .inl (a : Int), .inl b, .inr (.inl x)] (yput H 2404 (X 0) (i : Int))) Q := by
    intro b bs cs e0 hb hae hI n
    induction n with
    | zero => intro i x v h1 h2 h3; omega
    | succ n ih =>
      intro i x v h1 h2 h3 h4 h5 h6 h7 h8
      have F1 := Lf_put (f := 2404) (x := X 0) (v := (i : Int)) (by decide) hF
      have T1 := Lt_at (j := i) hT h3
      have N1 := LnY_put (a := X 0) (f := 2404) (v := (i : Int)) hN (by decide)
      have hin := tc0_in hT.2.2.1 i
      refine yl_Lexer_number_p37 ?_
      unfold yb_Lexer_number_p37
      rw [ycv_lex' F1]
      refine zW_Ie (y_see (k := 0) F1 T1 (by decide)) (zW_Ie y_isDigit ?_)
      rw [show i + 0 = i from rfl, sDigit_0 hT.2.2.1]
      refine zW_if (fun y => ?_) (fun y => ?_)
      · rw [bI_0] at y
        have he : sNum t e0 0 = (v, i) := by rw [← h4, sNum, if_neg (fun q => by rw [y] at q; cases q.2)]
        rw [he] at hI
        have fin : ∀ bd : Int, (bd = if b = 0 then 2147483647 else 2147483648) → zW (YL C (d + 2) 922 [zr (X 0), .inl (a : Int), .inl b, .inr (.inl x), .inr (.inl bd), .inr (.inl x)] (yput H 2404 (X 0) (i : Int))) Q := by
          intro bd hbd
          rw [← hbd] at hI
          refine yl_Lexer_number_p98 ?_
          unfold yb_Lexer_number_p98
          have hbd2 : bd = 2147483647 ∧ b = 0 ∨ bd = 2147483648 ∧ b = 1 := by split at hbd <;> omega
          refine zW_if (fun z => ?_) (fun z => ?_)
          · have hxv : x = v := by omega
            rw [if_neg (by dsimp only; omega)] at hI
            have exS : yEx (fun _ => False) 1 4 (yput H 2404 (X 0) (i : Int)) (ymk (yput H 2404 (X 0) (i : Int)) 22 0 4) := yEx_mono (yEx_mk (c := 0) (s := 0) yEx_refl) (fun _ _ z => z) (by omega) (by omega)
            have FS := Lf_ex F1 exS PN_F (fun z => z) (fun z => z) (fun z => z)
            have TS := Lt_ex F1 T1 exS (fun z => z) (fun z => z)
            have NS := LnY_ex F1 N1 exS PN_F (fun z => z) (fun z => z) (fun z => z) (fun _ _ _ z => z)
            refine zW_new ?_
            rw [if_neg (by decide)]
            refine zW_svR ?_
            have last : ∀ y0 : Int, y0 = (if b = 0 then v else -v) → StrY B (ymk (yput H 2404 (X 0) (i : Int)) 22 0 4) (C.1 cs) bs → zW (zV (ycs (YL C) (d + 2) 315 (some (ynx (yput H 2404 (X 0) (i : Int)))) [.inr (.inr (C.2.2.1 12)), .inl (a : Int), .inr (.inr (some (C.1 cs))), .inl (zl2i y0)] (ymk (yput H 2404 (X 0) (i : Int)) 22 0 4)) fun h1 => zrQ (some (ynx (yput H 2404 (X 0) (i : Int)))) h1) Q := by
              intro y0 hy0 hst
              have hyI : inI y0 := by split at hy0 <;> omega
              rw [zl2i_in hyI]
              refine zW_tok (k := (3, a, bs, y0)) (H := yput H 2404 (X 0) (i : Int)) (KW' := KW) (cap' := cap) lt (Nat.le_refl _) (Nat.lt_succ_self _) (by rw [ymk_K, if_pos rfl]) rfl hst FS TS NS (Nat.le_succ _) (Nat.le_refl _) ((exS.1 (X 0) (lt 0 (by decide)) (fun z => z)).1 2405) (yEx_mono exS (fun _ _ z => z.elim) (Nat.le_refl _) (Nat.le_refl _)) (by omega) (by omega) (PL_ex F1 exS (fun z => z)) (fun H' q => hok _ i _ H' ?_ (TkOk_at q))
              rw [hI, hy0]
            have mid : StrY B (ymk (yput H 2404 (X 0) (i : Int)) 22 0 4) (C.1 cs) bs → zW (YL C (d + 2) 973 [.inl b, .inr (.inl x), zr (C.1 cs), .inl (a : Int), .inr (.inr (C.2.2.1 12)), zr (ynx (yput H 2404 (X 0) (i : Int))), zr (ynx (yput H 2404 (X 0) (i : Int)))] (ymk (yput H 2404 (X 0) (i : Int)) 22 0 4)) Q := by
              intro hst
              refine yl_Lexer_number_p132 ?_
              unfold yb_Lexer_number_p132
              refine zW_if (fun q => ?_) (fun q => ?_)
              · exact last x (by rw [if_pos q]; exact hxv) hst
              · exact last (-x) (by rw [if_neg q, hxv]) hst
            rcases hb with ⟨hb, rfl, rfl⟩ | ⟨hb, rfl, rfl⟩
            · exact zW_t hb (mid (FS.2 97 (by decide)))
            · exact zW_f (by omega) (mid (FS.2 98 (by decide)))
          · rw [if_pos (by dsimp only; omega)] at hI
            exact zW_at F1 (her 1 a _ hI (ThOk_at (ThOk_thr F1 T1 N1 (Nat.le_succ _) (Nat.le_refl _) (yEx_refl (c := 0) (s := 0)) (by omega) (by omega) (fun _ _ q => q))))
        exact zW_if (fun z => fin _ (by rw [if_pos z])) (fun z => fin _ (by rw [if_neg z]))
      · rw [bI_1] at y
        have hdg : 48 ≤ tch t i ∧ tch t i ≤ 57 := of_decide_eq_true y
        have hnx : sNum t (i + 1) (10 * v + (tch t i - 48)) = sNum t e0 0 := by
          rw [← h4]
          conv => rhs; rw [sNum]
          rw [if_pos ⟨by omega, y⟩]
        rw [ycv_lex' F1]
        refine zW_Ie (y_see (k := 0) F1 T1 (by decide)) ?_
        rw [show i + 0 = i from rfl, show tc0 t i = tch t i by omega]
        refine zW_G (by omega) (zW_Je y_min2 (zW_let (zW_gI (by exact k0) rfl ?_)))
        rw [T1.2.1]
        refine zW_G (by omega) (zW_pI (by exact k0) (by decide) rfl ?_)
        rw [yput_put, show (i : Int) + 1 = ((i + 1 : Nat) : Int) by omega]
        refine ih (i + 1) _ _ (by omega) (by omega) (by omega) hnx (by omega) ?_ ?_ ?_
        · split <;> omega
        · split <;> omega
        · split <;> omega
  have I2 : sInt t a = if tch t a = 126 then (if (sNum t (a + 1) 0).1 > 2147483648 then .inl (1, a) else .inr ((3, a, [126], -(sNum t (a + 1) 0).1), (sNum t (a + 1) 0).2)) else (if (sNum t a 0).1 > 2147483647 then .inl (1, a) else .inr ((3, a, [], (sNum t a 0).1), (sNum t a 0).2)) := rfl
  refine yl_Lexer_number ?_
  unfold yb_Lexer_number
  refine zW_gI k0 rfl ?_
  rw [hT.2.1, ycv_lex' hF]
  refine zW_let (zW_Ie (y_see (k := 0) hF hT (by decide)) ?_)
  rw [show a + 0 = a from rfl]
  refine zW_if (fun y => ?_) (fun y => ?_)
  · rw [if_pos (by omega)] at I2
    refine yl_Lexer_number_p20 ?_
    unfold yb_Lexer_number_p20
    refine zW_let (zW_f (by decide) (zW_gI k0 rfl ?_))
    rw [hT.2.1]
    refine zW_G (by omega) (zW_pI k0 (by decide) rfl (zW_let ?_))
    rw [show (a : Int) + 1 = ((a + 1 : Nat) : Int) by omega]
    refine loop 1 [126] 98 (a + 1) (Or.inr ⟨rfl, rfl, rfl⟩) (by omega) ?_ (t.length + 1) (a + 1) 0 0 (by omega) (Nat.le_refl _) (by omega) rfl (by omega) (by omega) (by omega) (Or.inl rfl)
    rw [I2, if_neg (show ¬ (1 : Int) = 0 by decide), if_neg (show ¬ (1 : Int) = 0 by decide)]
  · rw [if_neg (by omega)] at I2
    refine yl_Lexer_number_p20 ?_
    unfold yb_Lexer_number_p20
    refine zW_let (zW_t rfl (zW_let ?_))
    have := loop 0 [] 97 a (Or.inl ⟨rfl, rfl, rfl⟩) (Nat.le_refl _) (by rw [I2, if_pos rfl, if_pos rfl]) (t.length + 1) a 0 0 (by omega) (Nat.le_refl _) (by omega) rfl (by omega) (by omega) (by omega) (Or.inl rfl)
    rw [yput_self hT.2.1] at this
    exact this
theorem y_escaped (hF : Lf C B X H) (hT : Lt X H t i) (hok : ∀ v j, sEsc t i = .inr (v, j) → Q (some (some (.inl v))) (yput H 2404 (X 0) (j : Nat))) (her : ∀ p : Nat, sEsc t i = .inl p → p ≤ t.length → Q none (yThr X (yput H 2404 (X 0) (p : Int)) 1 p)) :
    zW (YL C (d + 2) 185 [zr (X 0)] H) Q := by
  have k0 := hF.1.2.1.1
  have hl := hT.2.2.1.1
  have hi := hT.2.2.2.1
  have hin := tc0_in hT.2.2.1 i
  have simple : ∀ w v : Int, sEsc t i = .inr (v, i + 1) → i < t.length → (w = 110 ∧ v = 10 ∨ w = 116 ∧ v = 9 ∨ w ≠ 110 ∧ w ≠ 116 ∧ v = w) → zW (YL C (d + 2) 626 [zr (X 0), .inl w] H) Q := by
    intro w v h1 h2 h3
    refine yl_Lexer_escaped_p118 ?_
    unfold yb_Lexer_escaped_p118
    refine zW_gI k0 rfl ?_
    rw [hT.2.1]
    refine zW_G (by omega) (zW_pI k0 (by decide) rfl ?_)
    rw [show (i : Int) + 1 = ((i + 1 : Nat) : Int) by omega]
    have := hok v (i + 1) h1
    refine zW_if (fun q => zW_rI ?_) (fun q => zW_if (fun q1 => zW_rI ?_) (fun q1 => zW_rI ?_))
    · rw [show (10 : Int) = v by omega]; exact this
    · rw [show (9 : Int) = v by omega]; exact this
    · rw [show w = v by omega]; exact this
  refine yl_Lexer_escaped ?_
  unfold yb_Lexer_escaped
  rw [ycv_lex' hF]
  refine zW_Ie (y_see (k := 0) hF hT (by decide)) (zW_let (zW_Ie y_isDigit ?_))
  rw [show i + 0 = i from rfl, sDigit_0 hT.2.2.1]
  refine zW_if (fun y => ?_) (fun y => ?_)
  · rw [bI_0] at y
    refine zW_if (fun z => ?_) (fun z1 => zW_if (fun z => ?_) (fun z2 => zW_if (fun z => ?_) (fun z3 => zW_if (fun z => ?_) (fun z4 => ?_))))
    · exact simple _ 10 (by unfold sEsc; rw [if_pos (by omega)]) (by omega) (by omega)
    · exact simple _ 9 (by unfold sEsc; rw [if_neg (by omega), if_pos (by omega)]) (by omega) (by omega)
    · refine simple _ (tch t i) (by unfold sEsc; rw [if_neg (by omega), if_neg (by omega), if_pos (by omega)]) (by omega) (by omega)
    · refine simple _ (tch t i) (by unfold sEsc; rw [if_neg (by omega), if_neg (by omega), if_pos (by omega)]) (by omega) (by omega)
    · have he : sEsc t i = .inl i := by
        unfold sEsc
        rw [if_neg (by omega), if_neg (by omega), if_neg (by omega)]
        have : sDig t i 0 100 = none := by unfold sDig; rw [if_neg (fun q => by rw [y] at q; cases q.1)]
        rw [this]
      have := her i he hi
      rw [yput_self hT.2.1] at this
      exact zW_wrong hF hT this
  · rw [bI_1] at y
    have hdg : 48 ≤ tch t i ∧ tch t i ≤ 57 := of_decide_eq_true y
    have one : ∀ (i' : Nat) (v by0 by1 : Int), (by0 = 100 ∧ by1 = 10 ∨ by0 = 10 ∧ by1 = 1 ∨ by0 = 1 ∧ by1 = 0) → i' ≤ t.length → 0 ≤ v → v ≤ 255 → (sDig t i' v by0 = none → Q none (yThr X (yput H 2404 (X 0) (i' : Int)) 1 i')) → (∀ w : Int, sDig t i' v by0 = some w → i' < t.length → zW (YL C (d + 2) 627 [zr (X 0), .inl w, .inl by1] (yput H 2404 (X 0) ((i' + 1 : Nat) : Int))) Q) → zW (YL C (d + 2) 627 [zr (X 0), .inl v, .inl by0] (yput H 2404 (X 0) (i' : Int))) Q := by
      intro i' v by0 by1 hby hi' hv hv2 e1 e2
      have F1 := Lf_put (f := 2404) (x := X 0) (v := (i' : Int)) (by decide) hF
      have T1 := Lt_at (j := i') hT hi'
      have hin' := tc0_in hT.2.2.1 i'
      refine yl_Lexer_escaped_p18 ?_
      unfold yb_Lexer_escaped_p18
      rw [ycv_lex' F1]
      refine zW_f (by omega) (zW_Ie (y_see (k := 0) F1 T1 (by decide)) (zW_Ie y_isDigit ?_))
      rw [show i' + 0 = i' from rfl, sDigit_0 hT.2.2.1]
      refine zW_if (fun z => ?_) (fun z => ?_)
      · rw [bI_0] at z
        exact zW_wrong F1 T1 (e1 (by unfold sDig; rw [if_neg (fun q => by rw [z] at q; cases q.1)]))
      · rw [bI_1] at z
        have hd2 : 48 ≤ tch t i' ∧ tch t i' ≤ 57 := of_decide_eq_true z
        rw [ycv_lex' F1]
        refine zW_Ie (y_see (k := 0) F1 T1 (by decide)) ?_
        rw [show i' + 0 = i' from rfl, show tc0 t i' = tch t i' by omega]
        refine zW_G (by rcases hby with ⟨rfl, -⟩ | ⟨rfl, -⟩ | ⟨rfl, -⟩ <;> omega) (zW_if (fun z1 => ?_) (fun z1 => zW_wrong F1 T1 (e1 (by unfold sDig; rw [if_neg (fun q => z1 q.2)]))))
        rw [ycv_lex' F1]
        refine zW_Ie (y_see (k := 0) F1 T1 (by decide)) ?_
        rw [show i' + 0 = i' from rfl, show tc0 t i' = tch t i' by omega]
        refine zW_G (by rcases hby with ⟨rfl, -⟩ | ⟨rfl, -⟩ | ⟨rfl, -⟩ <;> omega) (zW_let (zW_gI (by exact k0) rfl ?_))
        rw [T1.2.1]
        refine zW_G (by omega) (zW_pI (by exact k0) (by decide) rfl (zW_let ?_))
        rw [yput_put, show (i' : Int) + 1 = ((i' + 1 : Nat) : Int) by omega, show zdivI by0 10 = by1 by rcases hby with ⟨rfl, rfl⟩ | ⟨rfl, rfl⟩ | ⟨rfl, rfl⟩ <;> decide]
        exact e2 _ (by unfold sDig; rw [if_pos ⟨z, z1⟩]) (by omega)
    unfold sEsc at hok her
    rw [if_neg (by omega), if_neg (by omega), if_neg (by omega)] at hok her
    refine zW_let (zW_let ?_)
    have first := one i 0 100 10 (Or.inl ⟨rfl, rfl⟩) hi (by decide) (by decide)
    rw [yput_self hT.2.1] at first
    refine first (fun h => ?_) (fun w hw hb => ?_)
    · rw [h] at her
      have := her i rfl hi
      rw [yput_self hT.2.1] at this
      exact this
    · rw [hw] at hok her
      have h1 := sDig_in hw (by decide) (Or.inl rfl)
      refine one (i + 1) w 10 1 (Or.inr (Or.inl ⟨rfl, rfl⟩)) (by omega) h1.1 h1.2 (fun h => ?_) (fun w2 hw2 hb2 => ?_)
      · dsimp only at her
        rw [h] at her
        exact her (i + 1) rfl (by omega)
      · dsimp only at hok her
        rw [hw2] at hok her
        have h2 := sDig_in hw2 h1.1 (Or.inr (Or.inl rfl))
        refine one (i + 2) w2 1 0 (Or.inr (Or.inr ⟨rfl, rfl⟩)) (by omega) h2.1 h2.2 (fun h => ?_) (fun w3 hw3 hb3 => ?_)
        · dsimp only at her
          rw [h] at her
          exact her (i + 2) rfl (by omega)
        · dsimp only at hok
          rw [hw3] at hok
          refine yl_Lexer_escaped_p18 ?_
          unfold yb_Lexer_escaped_p18
          exact zW_t (by decide) (zW_rI (hok w3 (i + 3) rfl))
end YInt
