set_option maxRecDepth 100000
/-! THE HOUSE'S LEXER: what lies between tokens; letters -/
section YGaps
variable {B P : Nat → Prop} {C : YC} {X : Nat → Nat} {H H' : YS} {a a' e e' c s d f g i j x : Nat} {v : Int} {t b b' : List Int} {Q : Option (Option ZV) → YS → Prop}
theorem ycv_lex {R : ZC YS} {tag : Nat} {as : List ZV} (hF : Lf C B X H) : ycv R d [(8, tag)] (some (X 0)) as H = zc R d tag (.inr (.inr (some (X 0))) :: as) H := ycv_s hF.1.2.1.1 ⟨by decide, rfl⟩
/-- a sign that may be in a text -/
abbrev sGood (c : Int) : Prop := sBlank c = true ∨ (33 ≤ c ∧ c ≤ 126)
theorem y_good (hF : Lf C B X H) (hT : Lt X H t i) (h1 : i < t.length → sGood (tch t i) → Q (some none) H) (h2 : ¬ (i < t.length ∧ sGood (tch t i)) → Q none (yThr X H 1 i)) : zW (YL C (d + 2) 174 [zr (X 0)] H) Q := by
  have k8 := hF.1.2.1.1
  have hin := tc0_in hT.2.2.1 i
  refine yl_Lexer_good ?_
  unfold yb_Lexer_good
  rw [ycv_lex hF]
  refine zW_Ie (y_see (k := 0) hF hT (by decide)) (zW_let (zW_gI k8 rfl (zW_gI k8 rfl ?_)))
  rw [hT.1, hT.2.1]
  refine zW_if (fun y => zW_Ie y_isBlank ?_) (fun y => zW_wrong hF hT (h2 (by omega)))
  rw [show i + 0 = i from rfl, show tc0 t i = tch t i by omega]
  refine zW_if (fun z => ?_) (fun z => ?_)
  · rw [bI_0] at z
    refine zW_if (fun w => zW_wrong hF hT (h2 (fun q => ?_))) (fun w => zW_if (fun w1 => zW_rV (h1 (by omega) (Or.inr (by omega)))) (fun w1 => zW_wrong hF hT (h2 (fun q => ?_))))
    · rcases q.2 with q | q
      · rw [z] at q; cases q
      · omega
    · rcases q.2 with q | q
      · rw [z] at q; cases q
      · omega
  · rw [bI_1] at z
    exact zW_rV (h1 (by omega) (Or.inl z))
/-- a note from its inside on -/
theorem y_note : ∀ (n dp i : Nat) (H : YS) (b : Nat), t.length < n + i → Lf C B X H → Lt X H t i → dp ≤ i → 0 < dp →
    (∀ k (e : Int) (p : Nat), sNote t b dp i = .inl (e, p) → k ≤ t.length → Q none (yThr X (yput H 2404 (X 0) (k : Nat)) e p)) →
    (∀ j, sNote t b dp i = .inr j → i ≤ j → j ≤ t.length → Q (some none) (yput H 2404 (X 0) j)) →
    zW (YL C (d + 3) 618 [zr (X 0), .inl (b : Int), .inl (dp : Int)] H) Q := by
  intro n
  induction n with
  | zero => intro dp i H b hn hF hT; have := hT.2.2.2.1; omega
  | succ n ih =>
    intro dp i H b hn hF hT hd h0 ke kr
    have k8 := hF.1.2.1.1
    have hi := hT.2.2.2.1
    have hl := hT.2.2.1.1
    have hin := tc0_in hT.2.2.1 i
    have hin1 := tc0_in hT.2.2.1 (i + 1)
    rw [sNote, if_neg (by omega)] at ke kr
    refine yl_Lexer_note_p7 ?_
    unfold yb_Lexer_note_p7
    refine zW_gI k8 rfl (zW_gI k8 rfl ?_)
    rw [hT.1, hT.2.1]
    refine zW_if (fun y => ?_) (fun y => ?_)
    · rw [if_pos (by omega)] at ke kr
      rw [ycv_lex hF]
      refine zW_V (P := fun H1 => H1 = H ∧ sGood (tch t i)) (T := fun H1 => ¬ sGood (tch t i) ∧ H1 = yThr X H 1 i) (zW_c (y_good hF hT (fun _ q => ⟨rfl, q⟩) (fun q => ⟨fun z => q ⟨by omega, z⟩, rfl⟩))) ?_ ?_
      · rintro H1 ⟨rfl, hg⟩
        have e0 : tc0 t (i + 0) = tch t i := by rw [show i + 0 = i from rfl]; omega
        -- one further, dp' deep
        have step : ∀ (dp' i' : Nat), i < i' → i' ≤ t.length → dp' ≤ i' → (∀ k (e : Int) (p : Nat), sNote t b dp' i' = .inl (e, p) → k ≤ t.length → Q none (yThr X (yput H1 2404 (X 0) (k : Nat)) e p)) → (∀ j, sNote t b dp' i' = .inr j → i ≤ j → j ≤ t.length → Q (some none) (yput H1 2404 (X 0) j)) → zW (if (dp' : Int) ≤ 0 then zrV (yput H1 2404 (X 0) (i' : Int)) else YL C (d + 3) 618 [zr (X 0), .inl (b : Int), .inl (dp' : Int)] (yput H1 2404 (X 0) (i' : Int))) Q := by
          intro dp' i' q1 q2 q3 q4 q5
          refine zW_if (fun z => zW_rV ?_) (fun z => ?_)
          · have : dp' = 0 := by omega
            subst this
            exact q5 i' (by rw [sNote, if_pos rfl]) (by omega) q2
          · refine ih dp' i' _ b (by omega) (Lf_put (by decide) hF) (Lt_at hT q2) q3 (by omega) (fun k e p w w1 => ?_) (fun j w w1 w2 => ?_)
            · rw [yput_put]; exact q4 k e p w w1
            · rw [yput_put]; exact q5 j w (by omega) w2
        have c3 : ¬ (tch t i = 40 ∧ tch t (i + 1) = 42) → ¬ (tch t i = 42 ∧ tch t (i + 1) = 41) → zW (YL C (d + 3) 921 [zr (X 0), .inl (b : Int), .inl (dp : Int)] H1) Q := by
          intro g1 g2
          rw [if_neg g1, if_neg g2, if_pos hg] at ke kr
          refine yl_Lexer_note_p104 ?_
          unfold yb_Lexer_note_p104
          refine zW_gI k8 rfl ?_
          rw [hT.2.1]
          refine zW_G (by omega) (zW_pI k8 (by decide) rfl ?_)
          rw [show (i : Int) + 1 = ((i + 1 : Nat) : Int) by omega]
          exact step dp (i + 1) (by omega) (by omega) (by omega) ke kr
        have c2 : ¬ (tch t i = 40 ∧ tch t (i + 1) = 42) → zW (YL C (d + 3) 812 [zr (X 0), .inl (b : Int), .inl (dp : Int)] H1) Q := by
          intro g1
          refine yl_Lexer_note_p68 ?_
          unfold yb_Lexer_note_p68
          rw [ycv_lex hF]
          refine zW_Ie (y_see (k := 0) hF hT (by decide)) ?_
          rw [e0]
          refine zW_if (fun y1 => ?_) (fun y1 => c3 g1 (fun q => y1 q.1))
          rw [ycv_lex hF]
          refine zW_Ie (y_see (k := 1) hF hT (by decide)) (zW_if (fun y2 => ?_) (fun y2 => c3 g1 (fun q => y2 (by omega))))
          rw [if_neg g1, if_pos (by omega)] at ke kr
          refine zW_G (by omega) (zW_let (zW_gI k8 rfl ?_))
          rw [hT.2.1]
          refine zW_G (by omega) (zW_pI k8 (by decide) rfl ?_)
          rw [show (dp : Int) + (-1) = ((dp - 1 : Nat) : Int) by omega, show (i : Int) + 2 = ((i + 2 : Nat) : Int) by omega]
          exact step (dp - 1) (i + 2) (by omega) (by omega) (by omega) ke kr
        rw [ycv_lex hF]
        refine zW_Ie (y_see (k := 0) hF hT (by decide)) ?_
        rw [e0]
        refine zW_if (fun y1 => ?_) (fun y1 => c2 (fun q => y1 q.1))
        rw [ycv_lex hF]
        refine zW_Ie (y_see (k := 1) hF hT (by decide)) (zW_if (fun y2 => ?_) (fun y2 => c2 (fun q => y2 (by omega))))
        rw [if_pos (by omega)] at ke kr
        refine zW_G (by omega) (zW_let (zW_gI k8 rfl ?_))
        rw [hT.2.1]
        refine zW_G (by omega) (zW_pI k8 (by decide) rfl ?_)
        rw [show (dp : Int) + 1 = ((dp + 1 : Nat) : Int) by omega, show (i : Int) + 2 = ((i + 2 : Nat) : Int) by omega]
        exact step (dp + 1) (i + 2) (by omega) (by omega) (by omega) ke kr
      · rintro H1 ⟨hg, rfl⟩
        have n1 : ¬ (tch t i = 40 ∧ tch t (i + 1) = 42) := fun q => hg (Or.inr (by omega))
        have n2 : ¬ (tch t i = 42 ∧ tch t (i + 1) = 41) := fun q => hg (Or.inr (by omega))
        rw [if_neg n1, if_neg n2, if_neg hg] at ke
        have := ke i 1 i rfl hi
        rw [yput_self hT.2.1] at this
        exact this
    · rw [if_neg (by omega)] at ke
      have := ke i 1 b rfl hi
      rw [yput_self hT.2.1] at this
      exact zW_at hF this
theorem y_next_gaps : ∀ (n i : Nat) (H : YS), t.length < n + i → Lf C B X H → Lt X H t i →
    (∀ k (e : Int) (p : Nat), sGaps t i = .inl (e, p) → k ≤ t.length → Q none (yThr X (yput H 2404 (X 0) (k : Nat)) e p)) →
    (∀ j, sGaps t i = .inr j → i ≤ j → j ≤ t.length → zW (YL C (d + 5) 617 [zr (X 0)] (yput H 2404 (X 0) j)) Q) →
    zW (YL C (d + 5) 170 [zr (X 0)] H) Q := by
  intro n
  induction n with
  | zero => intro i H hn hF hT; have := hT.2.2.2.1; omega
  | succ n ih =>
    intro i H hn hF hT ke kr
    have k8 := hF.1.2.1.1
    have hi := hT.2.2.2.1
    have hl := hT.2.2.1.1
    have hin := tc0_in hT.2.2.1 i
    have hin1 := tc0_in hT.2.2.1 (i + 1)
    have e0 : i < t.length → tc0 t (i + 0) = tch t i := fun _ => by rw [show i + 0 = i from rfl]; omega
    rw [sGaps] at ke kr
    have again : ∀ i' : Nat, i < i' → i' ≤ t.length → (∀ k (e : Int) (p : Nat), sGaps t i' = .inl (e, p) → k ≤ t.length → Q none (yThr X (yput H 2404 (X 0) (k : Nat)) e p)) → (∀ j, sGaps t i' = .inr j → i ≤ j → j ≤ t.length → zW (YL C (d + 5) 617 [zr (X 0)] (yput H 2404 (X 0) j)) Q) → zW (YL C (d + 5) 170 [zr (X 0)] (yput H 2404 (X 0) i')) Q := by
      intro i' h1 h2 h3 h4
      refine ih i' _ (by omega) (Lf_put (by decide) hF) (Lt_at hT h2) (fun k e p h w => ?_) (fun j h g1 g2 => ?_)
      · rw [yput_put]; exact h3 k e p h w
      · rw [yput_put]; exact h4 j h (by omega) g2
    have stop : ¬ (i < t.length ∧ (sBlank (tch t i) = true ∨ (tch t i = 40 ∧ tch t (i + 1) = 42))) → zW (YL C (d + 5) 617 [zr (X 0)] H) Q := by
      intro g
      have := fun q => kr i q (Nat.le_refl _) hi
      rw [yput_self hT.2.1] at this
      refine this ?_
      by_cases h1 : i < t.length
      · rw [if_pos h1, if_neg (fun q => g ⟨h1, Or.inl q⟩), if_neg (fun q => g ⟨h1, Or.inr q⟩)]
      · rw [if_neg h1]
    have go : i < t.length → (sBlank (tch t i) = true ∨ (tch t i = 40 ∧ tch t (i + 1) = 42)) → zW (YL C (d + 5) 616 [zr (X 0)] H) Q := by
      intro hb hg
      refine yl_Lexer_next_p42 ?_
      unfold yb_Lexer_next_p42
      rw [ycv_lex hF]
      refine zW_Ie (y_see (k := 0) hF hT (by decide)) ?_
      rw [e0 hb]
      refine zW_if (fun y => ?_) (fun y => ?_)
      · have hnb : ¬ sBlank (tch t i) = true := by rw [y]; decide
        have hg2 : tch t i = 40 ∧ tch t (i + 1) = 42 := hg.elim (fun q => absurd q hnb) id
        rw [if_pos hb, if_neg hnb, if_pos hg2] at ke kr
        rw [ycv_lex hF]
        refine zW_V (P := fun H1 => ∃ j, sNote t i 1 (i + 2) = .inr j ∧ i + 2 ≤ j ∧ j ≤ t.length ∧ H1 = yput H 2404 (X 0) j) (T := fun H1 => Q none H1) (zW_c ?_) ?_ (fun _ q => q)
        · -- the note's opening
          refine yl_Lexer_note ?_
          unfold yb_Lexer_note
          refine zW_gI k8 rfl ?_
          rw [hT.2.1]
          refine zW_let (zW_let ?_)
          refine yl_Lexer_note_p7 ?_
          unfold yb_Lexer_note_p7
          refine zW_gI k8 rfl (zW_gI k8 rfl ?_)
          rw [hT.1, hT.2.1]
          refine zW_t (by omega) ?_
          rw [ycv_lex hF]
          refine zW_V (P := fun H1 => H1 = H) (T := fun _ => False) (zW_c (y_good hF hT (fun _ _ => rfl) (fun q => q ⟨hb, Or.inr (by omega)⟩))) ?_ (fun _ q => q.elim)
          rintro H1 rfl
          rw [ycv_lex hF]
          refine zW_Ie (y_see (k := 0) hF hT (by decide)) ?_
          rw [e0 hb]
          refine zW_t y ?_
          rw [ycv_lex hF]
          refine zW_Ie (y_see (k := 1) hF hT (by decide)) (zW_t (by omega) (zW_G (by decide) (zW_let (zW_gI k8 rfl ?_))))
          rw [hT.2.1]
          refine zW_G (by omega) (zW_pI k8 (by decide) rfl (zW_f (by decide) ?_))
          rw [show (i : Int) + 2 = ((i + 2 : Nat) : Int) by omega]
          refine y_note (n := t.length + 1) (dp := 1) (i := i + 2) _ i (by omega) (Lf_put (by decide) hF) (Lt_at hT (by omega)) (by omega) (by omega) (fun k e p h w => ?_) (fun j h g1 g2 => ?_)
          · rw [h] at ke
            rw [yput_put]; exact ke k e p rfl w
          · exact ⟨j, h, g1, g2, by rw [yput_put]⟩
        · rintro H1 ⟨j, h, g1, g2, rfl⟩
          rw [h] at ke kr
          dsimp only at ke kr
          rw [if_pos (by omega)] at ke kr
          exact again j (by omega) g2 ke kr
      · have hbk : sBlank (tch t i) = true := hg.elim id (fun q => absurd q.1 y)
        rw [if_pos hb, if_pos hbk] at ke kr
        refine zW_gI k8 rfl ?_
        rw [hT.2.1]
        refine zW_G (by omega) (zW_pI k8 (by decide) rfl ?_)
        rw [show (i : Int) + 1 = ((i + 1 : Nat) : Int) by omega]
        exact again (i + 1) (by omega) (by omega) ke kr
    refine yl_Lexer_next ?_
    unfold yb_Lexer_next
    refine zW_gI k8 rfl (zW_gI k8 rfl ?_)
    rw [hT.1, hT.2.1]
    refine zW_if (fun y => ?_) (fun y => stop (fun q => by omega))
    have hb : i < t.length := by omega
    rw [ycv_lex hF]
    refine zW_Ie (y_see (k := 0) hF hT (by decide)) ?_
    rw [e0 hb]
    refine zW_Ie y_isBlank (zW_if (fun z => ?_) (fun z => ?_))
    · rw [bI_0] at z
      rw [ycv_lex hF]
      refine zW_Ie (y_see (k := 0) hF hT (by decide)) ?_
      rw [e0 hb]
      refine zW_if (fun z1 => ?_) (fun z1 => stop (fun q => q.2.elim (fun q => by rw [z] at q; cases q) (fun q => z1 q.1)))
      rw [ycv_lex hF]
      refine zW_Ie (y_see (k := 1) hF hT (by decide)) (zW_if (fun z2 => go hb (Or.inr (by omega))) (fun z2 => stop (fun q => q.2.elim (fun q => by rw [z] at q; cases q) (fun q => z2 (by omega)))))
    · rw [bI_1] at z
      exact go hb (Or.inl z)
/-- letters, digits, _ and ' -/
theorem y_letters : ∀ (n i : Nat) (H : YS), t.length < n + i → Lf C B X H → Lt X H t i → YL C (d + 2) 177 [zr (X 0)] H = some (some none, yput H 2404 (X 0) (sSkip sGoes t i : Nat)) := by
  intro n
  induction n with
  | zero => intro i H hn hF hT; have := hT.2.2.2.1; omega
  | succ n ih =>
    intro i H hn hF hT
    have k8 := hF.1.2.1.1
    have hi := hT.2.2.2.1
    have hl := hT.2.2.1.1
    have hin := tc0_in hT.2.2.1 i
    have e0 : tc0 t (i + 0) = tc0 t i := rfl
    have go : sGoes (tc0 t i) = true → zW (YL C (d + 2) 619 [zr (X 0)] H) (fun o H1 => o = some none ∧ H1 = yput H 2404 (X 0) (sSkip sGoes t i : Nat)) := by
      intro hg
      have hb : i < t.length := by
        rcases hin with q | q
        · exact q.1
        · rw [q.2.1] at hg; exact absurd hg (by decide)
      have ht : tc0 t i = tch t i := by omega
      rw [sSkip, if_pos ⟨hb, by rw [← ht]; exact hg⟩]
      refine yl_Lexer_letters_p42 ?_
      unfold yb_Lexer_letters_p42
      refine zW_gI k8 rfl ?_
      rw [hT.2.1]
      refine zW_G (by omega) (zW_pI k8 (by decide) rfl ?_)
      rw [show (i : Int) + 1 = ((i + 1 : Nat) : Int) by omega]
      have := ih (i + 1) _ (by omega) (Lf_put (f := 2404) (x := X 0) (v := ((i + 1 : Nat) : Int)) (by decide) hF) (Lt_at hT (by omega))
      rw [yput_put] at this
      exact zW_eq this ⟨rfl, rfl⟩
    refine zW_get (yl_Lexer_letters ?_)
    unfold yb_Lexer_letters
    rw [ycv_lex hF]
    refine zW_Ie (y_see (k := 0) hF hT (by decide)) (zW_Ie y_isLetter (zW_if (fun z => ?_) (fun z => ?_)))
    · rw [bI_0, e0] at z
      rw [ycv_lex hF]
      refine zW_Ie (y_see (k := 0) hF hT (by decide)) (zW_Ie y_isDigit (zW_if (fun z1 => ?_) (fun z1 => ?_)))
      · rw [bI_0, e0] at z1
        rw [ycv_lex hF]
        refine zW_Ie (y_see (k := 0) hF hT (by decide)) (zW_if (fun z2 => go (by unfold sGoes; rw [← e0, z2]; rfl)) (fun z2 => ?_))
        rw [ycv_lex hF]
        refine zW_Ie (y_see (k := 0) hF hT (by decide)) (zW_if (fun z3 => go (by unfold sGoes; rw [← e0, z3]; rfl)) (fun z3 => ?_))
        rw [e0] at z2 z3
        refine zW_rV ⟨rfl, ?_⟩
        have hng : sGoes (tc0 t i) = false := by
          unfold sGoes
          rw [z, z1]
          simp [z2, z3]
        rw [sSkip, if_neg, yput_self hT.2.1]
        rintro ⟨q1, q2⟩
        rw [show tc0 t i = tch t i by omega, q2] at hng
        cases hng
      · rw [bI_1, e0] at z1
        exact go (by unfold sGoes; rw [z1]; simp)
    · rw [bI_1, e0] at z
      exact go (by unfold sGoes; rw [z]; rfl)
end YGaps
