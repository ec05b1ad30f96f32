set_option maxRecDepth 100000
/-! THE REFERENCE READS A TOKEN, further: variables, ints, other signs -/
section ZRd2
variable {d : Nat} {t : List Int} {W : List (List Int)} {S : ZS} {Q : Option (Option ZV) → ZS → Prop}
theorem zl2i_in {a : Int} (h : inI a) : zl2i a = a := by
  unfold zl2i
  rw [← J_i2l (x := i32 a) rfl h, Int32.toInt32_toInt64, i32_toInt h]
theorem z_var588 {a e0 : Nat} (hok : ∀ j S', j = sSkip sGoes t e0 → ¬ 30 < j - a → RdOk S W (2, a, sl t a (j - a), 0) j S' → Q (some none) S') (her : ∀ S', 30 < sSkip sGoes t e0 - a → RdEr S 1 a S' → Q none S') (hL : Lx S t) (hN : NW S W) (h23 : S.1 23 = (a : Int)) (hae : a ≤ e0) :
    ∀ (n i : Nat), t.length < n + i → e0 ≤ i → i ≤ t.length → sSkip sGoes t i = sSkip sGoes t e0 → zW (ZL (d + 2) 588 [] (zput S 27 i)) Q := by
  intro n
  induction n with
  | zero => intro i h1 h2 h3; omega
  | succ n ih =>
    intro i h1 h2 h3 h4
    have hT := hL.2.1.1
    have hlt := tch_lt hL.2.1 i
    refine zl_readVariable_p49 ?_
    unfold zb_readVariable_p49
    refine zW_Ie (z_here (i := i) (Lx_27 hL) rfl (by omega)) (zW_Ie z_goesOn (zW_if (fun y => ?_) (fun y => ?_)))
    · rw [bI_0] at y
      have he : sSkip sGoes t e0 = i := by rw [← h4, sSkip, if_neg (fun q => by rw [y] at q; cases q.2)]
      have e27 : (zput S 27 (i : Int)).1 27 = (i : Int) := rfl
      have e23 : (zput S 27 (i : Int)).1 23 = (a : Int) := h23
      rw [e27, e23]
      refine zW_G (by omega) (zW_if (fun z => ?_) (fun z => zW_thr (her _ (by omega) (RdEr_put ⟨zAg_put (by decide) (zAg_put (by decide) zAg_refl), rfl, rfl, fun _ _ => rfl⟩))))
      rw [show ((i : Int) - (a : Int)) = ((i - a : Nat) : Int) by omega]
      refine zW_I (P := fun v S' => zAg FR0 AR0 S S' ∧ ∃ (w : Nat) (W' : List (List Int)), v = (w : Int) ∧ W <+: W' ∧ W'.length ≤ W.length + 1 ∧ off W' W'.length ≤ off W W.length + 30 ∧ NT S' W' ∧ w < W'.length ∧ W'.getD w [] = sl t a (i - a) ∧ S'.1 30 = S.1 30 ∧ S'.1 27 = (i : Int) ∧ S'.2.2.1 9 = S.2.2.1 9) (T := fun _ => False) ?_ ?_ (fun _ q => q.elim)
      · refine zW_c (z_nameAt (Lx_27 hL) (NW_put hN).1 (by omega) (by omega) hN.2.2.1 hN.2.2.2 (fun w hw e1 => ?_) (fun hnew S' hag hN' => ?_))
        · exact ⟨zAg_put (by decide) zAg_refl, w, W, rfl, List.prefix_rfl, by omega, by omega, (NW_put hN).1, hw, e1, rfl, rfl, rfl⟩
        · refine ⟨zAg_trans (zAg_put (by decide) zAg_refl) (zAg_mono hag (by decide) (by decide)), W.length, W ++ [sl t a (i - a)], rfl, List.prefix_append _ _, by rw [List.length_append]; exact Nat.le_refl _, ?_, hN', by rw [List.length_append]; exact Nat.lt_succ_self _, getD_app_last, hag.1 _ (by decide), hag.1 _ (by decide), hag.2.2.1 _ (by decide)⟩
          rw [List.length_append, show W.length + [sl t a (i - a)].length = W.length + 1 from rfl, off_succ (by rw [List.length_append]; exact Nat.lt_succ_self _), off_app (Nat.le_refl _), getD_app_last, sl_len (by omega)]
          omega
      · rintro v S' ⟨hag, w, W', rfl, hpre, g1, g2, hN', hw, hwl, h30, h27', h9⟩
        refine zW_p (zW_p (zW_rV (hok i _ he.symm (by omega) ⟨zAg_put (by decide) (zAg_put (by decide) hag), h27', ⟨W', hpre, g1, g2, NT_put (by decide) (by decide) (NT_put (by decide) (by decide) hN'), rfl, (hag.1 _ (by decide)).trans h23, fun _ => ⟨w, hw, rfl, hwl⟩, fun q => absurd (show (2 : Nat) = 3 from q) (by decide), fun q => absurd (show (2 : Nat) = 4 from q) (by decide), fun q => absurd (show (2 : Nat) = 5 from q) (by decide)⟩, le30 (show (2 : Nat) < 4 by decide) h30, fun x hx => ?_⟩)))
        show S'.2.2.1 9 x = _
        rw [h9]
    · rw [bI_1] at y
      have hb : i < t.length := by
        rw [hlt]
        unfold sGoes sLetter sDigit at y
        simp at y
        omega
      refine zW_G (by show inI ((i : Int) + 1); omega) (zW_p ?_)
      rw [show (zput S 27 i).1 27 + 1 = ((i + 1 : Nat) : Int) by rw [zput_1, if_pos rfl]; omega, zput_put]
      refine ih (i + 1) (by omega) (by omega) (by omega) ?_
      rw [← h4]
      conv => rhs; rw [sSkip]
      rw [if_pos ⟨hb, y⟩]
theorem z_readVariable {a : Nat} (hQ1 : ∀ k j S', sVar t a = .inr (k, j) → RdOk S W k j S' → Q (some none) S') (hQ2 : ∀ (x : Int) p S', sVar t a = .inl (x, p) → RdEr S x p S' → Q none S') (hL : Lx S t) (hN : NW S W) (h23 : S.1 23 = (a : Int)) (h27 : S.1 27 = (a : Int)) (h39 : tch t a = 39) :
    zW (ZL (d + 2) 35 [] S) Q := by
  have hT := hL.2.1.1
  have hlt := tch_lt hL.2.1 a
  have hlt1 := tch_lt hL.2.1 (a + 1)
  unfold sVar at hQ1 hQ2
  have key : ∀ e0 : Nat, e0 = (if tch t (a + 1) = 39 then a + 2 else a + 1) → e0 ≤ t.length → zW (ZL (d + 2) 361 [] (zput S 27 e0)) Q := by
    intro e0 he0 hle
    rw [← he0] at hQ1 hQ2
    refine zl_readVariable_p29 ?_
    unfold zb_readVariable_p29
    refine zW_Ie (z_here (i := e0) (Lx_27 hL) rfl (by omega)) (zW_Ie z_isLetter (zW_if (fun y => ?_) (fun y => ?_)))
    · rw [bI_0] at y
      rw [if_neg (by rw [y]; exact fun q => by cases q)] at hQ2
      exact zW_thr (hQ2 1 e0 _ rfl (RdEr_put ⟨zAg_put (by decide) (zAg_put (by decide) zAg_refl), rfl, rfl, fun _ _ => rfl⟩))
    · rw [bI_1] at y
      rw [if_pos y] at hQ1 hQ2
      refine z_var588 (a := a) (e0 := e0) (fun j S' e1 e2 e3 => ?_) (fun S' e1 e2 => ?_) hL hN h23 (by split at he0 <;> omega) (t.length + 1) e0 (by omega) (Nat.le_refl _) hle rfl
      · rw [if_neg (by rw [← e1]; exact e2)] at hQ1
        exact hQ1 _ _ S' (by rw [e1]) e3
      · rw [if_pos e1] at hQ2
        exact hQ2 1 a S' rfl e2
  refine zl_readVariable ?_
  unfold zb_readVariable
  refine zW_G (by omega) (zW_p ?_)
  rw [show S.1 27 + 1 = ((a + 1 : Nat) : Int) by omega]
  refine zW_Ie (z_here (i := a + 1) (Lx_27 hL) rfl (by omega)) (zW_if (fun y => ?_) (fun y => ?_))
  · refine zW_G (by show inI (((a + 1 : Nat) : Int) + 1); omega) (zW_p ?_)
    rw [show (zput S 27 ((a + 1 : Nat) : Int)).1 27 + 1 = ((a + 2 : Nat) : Int) by rw [zput_1, if_pos rfl]; omega, zput_put]
    exact key (a + 2) (by rw [if_pos y]) (by omega)
  · exact key (a + 1) (by rw [if_neg y]) (by omega)
theorem z_readInt {a : Nat} (hQ1 : ∀ k j S', sInt t a = .inr (k, j) → RdOk S W k j S' → Q (some none) S') (hQ2 : ∀ (x : Int) p S', sInt t a = .inl (x, p) → RdEr S x p S' → Q none S') (hL : Lx S t) (hN : NW S W) (h23 : S.1 23 = (a : Int)) (h27 : S.1 27 = (a : Int)) (hle : a < t.length) :
    zW (ZL (d + 1) 36 [] S) Q := by
  have hT := hL.2.1.1
  have hlt := tch_lt hL.2.1 a
  have loop : ∀ (b : Int) (e0 : Nat), (b = 0 ∨ b = 1) → (∀ v j, sNum t e0 0 = (v, j) → (if b = 0 then v ≤ 2147483647 else v ≤ 2147483648) → 0 ≤ v → ∀ S', zAg FR0 AR0 S S' → S'.1 27 = (j : Int) → S'.1 24 = (if b = 0 then v else -v) → S'.1 26 = b → S'.1 22 = 3 → S'.1 30 = S.1 30 → S'.2.2.1 9 = S.2.2.1 9 → NT S' W → Q (some none) S') → (∀ v j, sNum t e0 0 = (v, j) → ¬ (if b = 0 then v ≤ 2147483647 else v ≤ 2147483648) → ∀ S', RdEr S 1 a S' → Q none S') →
      ∀ (n i : Nat) (x v : Int), t.length < n + i → i ≤ t.length → sNum t i v = sNum t e0 0 → 0 ≤ v → 0 ≤ x → x ≤ 21474836490 → (x = v ∨ (2147483648 < x ∧ 2147483648 < v)) → zW (ZL (d + 1) 589 [.inl b, .inr (.inl x)] (zput S 27 i)) Q := by
    intro b e0 hb g1 g2 n
    induction n with
    | zero => intro i x v h1 h2; omega
    | succ n ih =>
      intro i x v h1 h2 h3 h4 h5 h6 h7
      have hin := tch_in hL.2.1 i
      have hlti := tch_lt hL.2.1 i
      refine zl_readInt_p31 ?_
      unfold zb_readInt_p31
      refine zW_Ie (z_here (i := i) (Lx_27 hL) rfl (by omega)) (zW_Ie z_isDigit (zW_if (fun y => ?_) (fun y => ?_)))
      · rw [bI_0] at y
        have he : sNum t e0 0 = (v, i) := by rw [← h3, sNum, if_neg (fun q => by rw [y] at q; cases q.2)]
        have e23 : (zput S 27 (i : Int)).1 23 = (a : Int) := h23
        have fin : ∀ bd : Int, (bd = if b = 0 then 2147483647 else 2147483648) → zW (ZL (d + 1) 709 [.inl b, .inr (.inl x), .inr (.inl bd), .inr (.inl x)] (zput S 27 i)) Q := by
          intro bd hbd
          refine zl_readInt_p96 ?_
          unfold zb_readInt_p96
          refine zW_if (fun z => ?_) (fun z => ?_)
          · have hxv : x = v := h7.elim id (fun h7 => by split at hbd <;> omega)
            have hcond : (if b = 0 then v ≤ 2147483647 else v ≤ 2147483648) := by split <;> (split at hbd <;> omega)
            have last : ∀ y0 : Int, y0 = (if b = 0 then v else -v) → zW (ZL (d + 1) 785 [.inl b, .inr (.inl y0)] (zput S 27 i)) Q := by
              intro y0 hy0
              have hyI : inI y0 := by split at hy0 <;> (split at hbd <;> omega)
              refine zl_readInt_p121 ?_
              unfold zb_readInt_p121
              rw [zl2i_in hyI]
              refine zW_p (zW_if (fun q => zW_p (zW_p (zW_rV ?_))) (fun q => zW_p (zW_p (zW_rV ?_))))
              · exact g1 v i he hcond h4 _ (zAg_put (by decide) (zAg_put (by decide) (zAg_put (by decide) (zAg_put (by decide) zAg_refl)))) rfl hy0 q.symm rfl rfl rfl (NT_put (by decide) (by decide) (NT_put (by decide) (by decide) (NT_put (by decide) (by decide) (NW_put hN).1)))
              · exact g1 v i he hcond h4 _ (zAg_put (by decide) (zAg_put (by decide) (zAg_put (by decide) (zAg_put (by decide) zAg_refl)))) rfl hy0 (hb.elim (fun z => absurd z q) (fun z => z.symm)) rfl rfl rfl (NT_put (by decide) (by decide) (NT_put (by decide) (by decide) (NT_put (by decide) (by decide) (NW_put hN).1)))
            refine zW_if (fun q => last x (by rw [if_pos q]; exact hxv)) (fun q => zW_G (by omega) (last (-x) (by rw [if_neg q, hxv])))
          · rw [e23]
            refine zW_thr (g2 v i he (fun q => ?_) _ (RdEr_put ⟨zAg_put (by decide) (zAg_put (by decide) zAg_refl), rfl, rfl, fun _ _ => rfl⟩))
            split at q <;> (split at hbd <;> (rcases h7 with h7 | h7 <;> omega))
        refine zW_if (fun z => fin _ (by rw [if_pos z])) (fun z => fin _ (by rw [if_neg z]))
      · rw [bI_1] at y
        have hdg : 48 ≤ tch t i ∧ tch t i ≤ 57 := of_decide_eq_true y
        have hb2 : i < t.length := by omega
        have hnx : sNum t (i + 1) (10 * v + (tch t i - 48)) = sNum t e0 0 := by
          rw [← h3]
          conv => rhs; rw [sNum]
          rw [if_pos ⟨hb2, y⟩]
        have go : ∀ x' : Int, 0 ≤ x' → x' ≤ 21474836490 → (x' = 10 * v + (tch t i - 48) ∨ (2147483648 < x' ∧ 2147483648 < 10 * v + (tch t i - 48))) → zW (ZL (d + 1) 710 [.inl b, .inr (.inl x')] (zput S 27 i)) Q := by
          intro x' k1 k2 k3
          refine zl_readInt_p68 ?_
          unfold zb_readInt_p68
          refine zW_let (zW_G (by show inI ((i : Int) + 1); omega) (zW_p ?_))
          rw [show (zput S 27 i).1 27 + 1 = ((i + 1 : Nat) : Int) by rw [zput_1, if_pos rfl]; omega, zput_put]
          exact ih (i + 1) x' _ (by omega) (by omega) hnx (by omega) k1 k2 k3
        refine zW_if (fun z => zW_Ie (z_here (i := i) (Lx_27 hL) rfl (by omega)) (zW_G (by omega) (go _ (by omega) (by omega) ?_))) (fun z => go x h5 h6 ?_)
        · rcases h7 with h7 | h7
          · left; omega
          · omega
        · right; rcases h7 with h7 | h7 <;> omega
  have mk : ∀ (b : Int) (bs : List Int) (v : Int) (j : Nat) (S' : ZS), b = (if bs = [] then 0 else 1) → zAg FR0 AR0 S S' → S'.1 27 = (j : Int) → S'.1 24 = v → S'.1 26 = b → S'.1 22 = 3 → S'.1 30 = S.1 30 → S'.2.2.1 9 = S.2.2.1 9 → NT S' W → RdOk S W (3, a, bs, v) j S' := by
    intro b bs v j S' hb hag k1 k2 k3 k4 k5 k6 k7
    exact ⟨hag, k1, ⟨W, List.prefix_rfl, by omega, by omega, k7, k4, (hag.1 _ (by decide)).trans h23, fun q => absurd (show (3 : Nat) < 3 from q) (by decide), fun _ => ⟨k2, k3.trans hb⟩, fun q => absurd (show (3 : Nat) = 4 from q) (by decide), fun q => absurd (show (3 : Nat) = 5 from q) (by decide)⟩, le30 (show (3 : Nat) < 4 by decide) k5, fun x hx => by rw [k6]⟩
  unfold sInt at hQ1 hQ2
  refine zl_readInt ?_
  unfold zb_readInt
  refine zW_Ie (z_here hL h27 (by omega)) (zW_if (fun y => ?_) (fun y => ?_))
  · rw [if_pos y] at hQ1 hQ2
    refine zl_readInt_p14 ?_
    unfold zb_readInt_p14
    refine zW_let (zW_f (by decide) (zW_G (by omega) (zW_p (zW_let ?_))))
    rw [show S.1 27 + 1 = ((a + 1 : Nat) : Int) by omega]
    refine loop 1 (a + 1) (Or.inr rfl) (fun v j hs hc hv S' k0 k1 k2 k3 k4 k5 k6 k7 => ?_) (fun v j hs hc S' k => ?_) (t.length + 1) (a + 1) 0 0 (by omega) (by omega) rfl (by omega) (by omega) (by omega) (Or.inl rfl)
    · rw [hs] at hQ1
      rw [if_neg (by decide)] at hc k2
      rw [if_neg (by omega)] at hQ1
      exact hQ1 _ _ S' rfl (mk 1 [126] (-v) j S' rfl k0 k1 k2 k3 k4 k5 k6 k7)
    · rw [hs] at hQ2
      rw [if_neg (by decide)] at hc
      rw [if_pos (by omega)] at hQ2
      exact hQ2 1 a S' rfl k
  · rw [if_neg y] at hQ1 hQ2
    refine zl_readInt_p14 ?_
    unfold zb_readInt_p14
    refine zW_let (zW_t rfl (zW_let ?_))
    rw [← zput_self h27]
    refine loop 0 a (Or.inl rfl) (fun v j hs hc hv S' k0 k1 k2 k3 k4 k5 k6 k7 => ?_) (fun v j hs hc S' k => ?_) (t.length + 1) a 0 0 (by omega) (by omega) rfl (by omega) (by omega) (by omega) (Or.inl rfl)
    · rw [hs] at hQ1
      rw [if_pos rfl] at hc k2
      rw [if_neg (by omega)] at hQ1
      exact hQ1 _ _ S' rfl (mk 0 [] v j S' rfl k0 k1 k2 k3 k4 k5 k6 k7)
    · rw [hs] at hQ2
      rw [if_pos rfl] at hc
      rw [if_pos (by omega)] at hQ2
      exact hQ2 1 a S' rfl k
theorem z_readOther {a : Nat} (hQ1 : ∀ k j S', sOther t a = .inr (k, j) → RdOk S W k j S' → Q (some none) S') (hQ2 : ∀ (x : Int) p S', sOther t a = .inl (x, p) → RdEr S x p S' → Q none S') (hL : Lx S t) (hN : NW S W) (h23 : S.1 23 = (a : Int)) (h27 : S.1 27 = (a : Int)) (hle : a < t.length) :
    zW (ZL (d + 2) 42 [.inl (tch t a)] S) Q := by
  have hT := hL.2.1.1
  have hlt := tch_lt hL.2.1 a
  have hlt1 := tch_lt hL.2.1 (a + 1)
  have hlt2 := tch_lt hL.2.1 (a + 2)
  have nm : ∀ e : Nat, a ≤ e → e ≤ t.length → sOther t a = sNamed t a e → zW (zV (zc ZL (d + 2) 34 [] (zput S 27 e)) fun S5 => zrV S5) Q := by
    intro e h1 h2 h3
    refine zW_V (P := fun S' => Q (some none) S') (T := fun S' => Q none S') (zW_c (z_named (a := a) (e := e) (Lx_27 hL) (NW_put hN) h23 rfl h1 h2 (fun k j S' e1 e2 => ?_) (fun x p S' e1 e2 => ?_))) (fun S' q => zW_rV q) (fun S' q => q)
    · exact hQ1 k j S' (h3.trans e1) (RdOk_put e2)
    · exact hQ2 x p S' (h3.trans e1) (RdEr_put e2)
  have hs : ¬ (tch t a = 46) → (tch t a = 40 ∨ tch t a = 41 ∨ tch t a = 91 ∨ tch t a = 93 ∨ tch t a = 123 ∨ tch t a = 125 ∨ tch t a = 44 ∨ tch t a = 59 ∨ tch t a = 95) → zW (ZL (d + 2) 369 [] S) Q := by
    intro h0 h
    refine zl_readOther_p115 ?_
    unfold zb_readOther_p115
    refine zW_G (by omega) (zW_p ?_)
    rw [show S.1 27 + 1 = ((a + 1 : Nat) : Int) by omega]
    exact nm (a + 1) (by omega) (by omega) (by unfold sOther; rw [if_neg h0, if_pos h])
  have dots : ∀ k : Nat, k ≤ 3 → tch t a = 46 → (∀ j, j < k → tch t (a + j) = 46) → a + k ≤ t.length → zW (ZL (d + 2) 368 [.inl (k : Int)] (zput S 27 ((a + k : Nat) : Int))) Q := by
    intro k hk h0 hj hle2
    have : ∀ m k : Nat, 3 ≤ m + k → k ≤ 3 → (∀ j, j < k → tch t (a + j) = 46) → a + k ≤ t.length → zW (ZL (d + 2) 368 [.inl (k : Int)] (zput S 27 ((a + k : Nat) : Int))) Q := by
      intro m
      induction m with
      | zero =>
        intro k h1 h2 h3 h4
        have : k = 3 := by omega
        subst this
        refine zl_readOther_p8 ?_
        unfold zb_readOther_p8
        refine zW_f (by decide) (nm (a + 3) (by omega) h4 ?_)
        unfold sOther
        rw [if_pos h0, if_neg (by rw [h3 1 (by omega)]; exact fun q => q rfl), if_neg (by rw [h3 2 (by omega)]; exact fun q => q rfl)]
      | succ m ih =>
        intro k h1 h2 h3 h4
        refine zl_readOther_p8 ?_
        unfold zb_readOther_p8
        refine zW_if (fun z => zW_Ie (z_here (i := a + k) (Lx_27 hL) rfl (by omega)) (zW_if (fun y => ?_) (fun y => ?_))) (fun z => ?_)
        · have := tch_lt hL.2.1 (a + k)
          refine zW_G (by show inI (((a + k : Nat) : Int) + 1); omega) (zW_p (zW_G (by omega) (zW_let ?_)))
          rw [show (zput S 27 ((a + k : Nat) : Int)).1 27 + 1 = ((a + (k + 1) : Nat) : Int) by rw [zput_1, if_pos rfl]; omega, zput_put, show (k : Int) + 1 = ((k + 1 : Nat) : Int) by omega]
          refine ih (k + 1) (by omega) (by omega) (fun j hj => ?_) (by omega)
          by_cases e : j = k
          · rw [e]; exact y
          · exact h3 j (by omega)
        · refine zW_thr (hQ2 1 (a + k) _ ?_ (RdEr_put ⟨zAg_put (by decide) (zAg_put (by decide) zAg_refl), rfl, rfl, fun _ _ => rfl⟩))
          unfold sOther
          rw [if_pos h0]
          have hk3 : k = 0 ∨ k = 1 ∨ k = 2 := by omega
          rcases hk3 with e | e | e
          · subst e; exact absurd h0 y
          · subst e; rw [if_pos y]
          · subst e; rw [if_neg (by rw [h3 1 (by omega)]; exact fun q => q rfl), if_pos y]
        · have : k = 3 := by omega
          subst this
          refine nm (a + 3) (by omega) h4 ?_
          unfold sOther
          rw [if_pos h0, if_neg (by rw [h3 1 (by omega)]; exact fun q => q rfl), if_neg (by rw [h3 2 (by omega)]; exact fun q => q rfl)]
    exact this 3 k (by omega) hk hj hle2
  refine zl_readOther ?_
  unfold zb_readOther
  refine zW_if (fun y => zW_let ?_) (fun y0 => ?_)
  · have := dots 0 (by omega) y (fun j hj => by omega) (by omega)
    rw [show ((a + 0 : Nat) : Int) = (a : Int) by omega, zput_self h27] at this
    exact this
  · refine zW_if (fun y => hs y0 (by omega)) (fun y1 => zW_if (fun y => hs y0 (by omega)) (fun y2 => zW_if (fun y => hs y0 (by omega)) (fun y3 => zW_if (fun y => hs y0 (by omega)) (fun y4 => zW_if (fun y => hs y0 (by omega)) (fun y5 => zW_if (fun y => hs y0 (by omega)) (fun y6 => zW_if (fun y => hs y0 (by omega)) (fun y7 => zW_if (fun y => hs y0 (by omega)) (fun y8 => zW_if (fun y => hs y0 (by omega)) (fun y9 => ?_)))))))))
    rw [h27]
    refine zW_thr (hQ2 1 a _ ?_ ⟨zAg_put (by decide) (zAg_put (by decide) zAg_refl), rfl, rfl, fun _ _ => rfl⟩)
    unfold sOther
    rw [if_neg y0, if_neg (by omega)]
end ZRd2
