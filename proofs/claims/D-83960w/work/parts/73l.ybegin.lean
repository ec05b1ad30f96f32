set_option maxRecDepth 100000
/-! THE HOUSE'S LEXER BEGINS ANEW -/
section YBegin
variable {B P : Nat → Prop} {C : YC} {X : Nat → Nat} {H H' H1 H3 : YS} {a a' e s c d f g i j x cap cap' r c0 s0 : Nat} {v : Int} {t b b' : List Int} {KW KW' : List (List Int)} {L : List (Option Nat)} {Q : Option (Option ZV) → YS → Prop}
theorem y_begin (hF : Lf C B X H) (hT : Lt X H t i) (hA : AlY H (X 5) e cap L) (hcap : cap ≤ 3000) :
    zW (YL C (d + 1) 169 [zr (X 0)] H) (oV (fun H' => Lf C B X H' ∧ Lt X H' t 0 ∧ LnY B X H' [] cap ∧ yI H' 2405 (X 0) = 0 ∧ yEx (PL X H) 0 0 H H' ∧ ynx H' = ynx H ∧ ∀ x, x < ynx H → PL X H' x → PL X H x) fun _ => False) := by
  obtain ⟨k0, k1, k2, k3, k4, k5, k6, k7⟩ := hF.1.2.1
  have lt := hF.1.1
  have he := hA.2.2.2.2.2.2.1
  refine yl_Lexer_begin ?_
  unfold yb_Lexer_begin
  refine zW_pI k0 (by decide) rfl (zW_pI (by exact k0) (by decide) rfl (zW_gR (by exact k0) rfl ?_))
  have F1 := Lf_put (f := 2405) (x := X 0) (v := 0) (by decide) (Lf_put (f := 2404) (x := X 0) (v := 0) (by decide) hF)
  have T1 := Lt_put (f := 2405) (x := X 0) (v := 0) (by decide) (Lt_at (j := 0) hT (Nat.zero_le _))
  have A1 : AlY (yput (yput H 2404 (X 0) 0) 2405 (X 0) 0) (X 5) e cap L := by
    obtain ⟨h1, h2, h3, h4, h5, h6⟩ := hA
    exact ⟨h1, h2, h3, (yput_f (H := yput H 2404 (X 0) 0) (f := 2405) (g := 1502) (by decide)).trans ((yput_f (by decide)).trans h4), h5, h6⟩
  have n1 : yI (yput (yput H 2404 (X 0) 0) 2405 (X 0) 0) 2405 (X 0) = 0 := yput_at
  have ex1 : yEx (PL X H) 0 0 H (yput (yput H 2404 (X 0) 0) 2405 (X 0) 0) := yEx_put (yEx_put yEx_refl (fun _ => Or.inl rfl)) (fun _ => Or.inl rfl)
  have PA1 : PA (yput (yput H 2404 (X 0) 0) 2405 (X 0) 0) (X 5) e = PA H (X 5) e := rfl
  have M1 : ∀ x, PL X (yput (yput H 2404 (X 0) 0) 2405 (X 0) 0) x → PL X H x := fun _ q => q
  have x1 : ynx (yput (yput H 2404 (X 0) 0) 2405 (X 0) 0) = ynx H := rfl
  have R5 := F1.1.2.2.1.2.2.2.1
  rw [R5]
  have T1' : Lt X (yput (yput H 2404 (X 0) 0) 2405 (X 0) 0) t 0 := T1
  generalize yput (yput H 2404 (X 0) 0) 2405 (X 0) 0 = H1 at *
  obtain ⟨m0, m1, m2, m3, m4, m5, m6, m7⟩ := F1.1.2.1
  have me := A1.2.2.2.2.2.2.1
  rw [ycv_s m5 ⟨by decide, rfl⟩]
  refine zW_V (P := fun H2 => AlY H2 (X 5) e cap [] ∧ yEx (PA H1 (X 5) e) 0 0 H1 H2 ∧ ynx H2 = ynx H1) (T := fun _ => False) (zW_c (zW_mono (y_alClear A1 (by omega)) ?_)) ?_ (fun _ q => q.elim)
  · rintro o H2 ⟨rfl, q⟩
    exact q
  rintro H2 ⟨A2, ex2, x2⟩
  refine zW_let ?_
  have PN2 : PN B (PA H1 (X 5) e) H1 := by
    rintro x (rfl | ⟨rfl, q⟩) _ <;> omega
  have nX : ∀ k, k < 8 → k ≠ 5 → ¬ PA H1 (X 5) e (X k) := by
    intro k hk hk5 q
    have hk : k = 0 ∨ k = 1 ∨ k = 2 ∨ k = 3 ∨ k = 4 ∨ k = 6 ∨ k = 7 := by omega
    rcases q with q | ⟨q, q2⟩
    · have := congrArg (yK H1) q
      rcases hk with rfl | rfl | rfl | rfl | rfl | rfl | rfl <;> omega
    · have := congrArg (yK H1) q
      rcases hk with rfl | rfl | rfl | rfl | rfl | rfl | rfl <;> omega
  have F2 := Lf_ex F1 ex2 PN2 (nX 0 (by decide) (by decide)) (nX 1 (by decide) (by decide)) (nX 3 (by decide) (by decide))
  have T2 := Lt_ex F1 T1' ex2 (nX 0 (by decide) (by decide)) (nX 2 (by decide) (by decide))
  have n2 : yI H2 2405 (X 0) = 0 := by rw [(ex2.1 (X 0) (F1.1.1 0 (by decide)) (nX 0 (by decide) (by decide))).1]; exact n1
  obtain ⟨p0, p1, p2, p3, p4, p5, p6, p7⟩ := F2.1.2.1
  have pe := A2.2.2.2.2.2.2.1
  have N6 := F2.1.2.2.2.1.2.2.1
  have loop : ∀ (n k : Nat) (Hk : YS), 256 < n + k → k ≤ 256 → yEx (fun x => x = X 6) 0 0 H2 Hk → (∀ h : Int, 0 ≤ h → h < k → yA Hk (X 6) h = -1) → ynx Hk = ynx H2 → yK Hk (X 0) = 8 → yR Hk 2407 (X 0) = some (X 6) → yK Hk (X 6) = 1000 → yN Hk (X 6) = 256 → zW (YL C (d + 1) 615 [zr (X 0), .inl (k : Int)] Hk) (oV (fun H' => Lf C B X H' ∧ Lt X H' t 0 ∧ LnY B X H' [] cap ∧ yI H' 2405 (X 0) = 0 ∧ yEx (PL X H) 0 0 H H' ∧ ynx H' = ynx H ∧ ∀ x, x < ynx H → PL X H' x → PL X H x) fun _ => False) := by
    intro n
    induction n with
    | zero => intro k Hk q1 q2; omega
    | succ n ih =>
      intro k Hk q1 q2 q3 q4 q5 q6 q7 q8 q9
      refine yl_Lexer_begin_p19 ?_
      unfold yb_Lexer_begin_p19
      refine zW_gR q6 rfl ?_
      rw [q7]
      refine zW_len (by omega) ?_
      rw [q9]
      refine zW_if (fun z => zW_gR q6 rfl ?_) (fun z => zW_rV ?_)
      · rw [q7]
        refine zW_yst q8 rfl (by omega) (zW_G (by omega) (zW_let ?_))
        rw [show ynar 1000 (-1) = -1 from rfl, show (k : Int) + 1 = ((k + 1 : Nat) : Int) by omega]
        refine ih (k + 1) _ (by omega) (by omega) (yEx_set q3 (fun _ => rfl)) (fun h h1 h2 => ?_) q5 q6 q7 q8 q9
        by_cases w : h = (k : Int)
        · rw [w]; exact yset_at
        · rw [yset_j w]; exact q4 h h1 (by omega)
      · have hk : k = 256 := by omega
        have PN3 : PN B (fun x => x = X 6) H2 := by
          rintro x rfl _
          omega
        have nY : ∀ k, k < 8 → k ≠ 6 → ¬ X k = X 6 := by
          intro k hk hk5 q
          have hk : k = 0 ∨ k = 1 ∨ k = 2 ∨ k = 3 ∨ k = 4 ∨ k = 5 ∨ k = 7 := by omega
          have := congrArg (yK H2) q
          have h67 := F2.1.2.2.2.2.1
          rcases hk with rfl | rfl | rfl | rfl | rfl | rfl | rfl
          · omega
          · omega
          · omega
          · omega
          · omega
          · omega
          · exact h67 q.symm
        have Fk := Lf_ex F2 q3 PN3 (nY 0 (by decide) (by decide)) (nY 1 (by decide) (by decide)) (nY 3 (by decide) (by decide))
        have Tk := Lt_ex F2 T2 q3 (nY 0 (by decide) (by decide)) (nY 2 (by decide) (by decide))
        have Ak := AlY_ex A2 q3 (nY 5 (by decide) (by decide)) (fun z w => by rw [w] at z; omega)
        refine ⟨Fk, Tk, ⟨hcap, e, [], Ak, rfl, fun k q => absurd q (Nat.not_lt_zero k), fun h h1 h2 => by rw [q4 h h1 (by omega)]; exact ⟨Int.le_refl _, by decide⟩, fun k q => absurd q (Nat.not_lt_zero k)⟩, ?_, ?_, by omega, fun x hx q => ?_⟩
        · rw [(q3.1 (X 0) (F2.1.1 0 (by decide)) (nY 0 (by decide) (by decide))).1]
          exact n2
        · refine yEx_mono (yEx_trans (yEx_trans ex1 ex2 (fun x hx q => ?_)) q3 (fun x hx q => Or.inr (Or.inr (Or.inr (Or.inl q))))) (fun _ _ z => z) (by omega) (by omega)
          rcases q with q | ⟨q, q1⟩
          · exact Or.inr (Or.inr (Or.inl q))
          · refine Or.inr (Or.inr (Or.inr (Or.inr (Or.inr ⟨by rw [q]; exact hA.2.2.1, ?_⟩))))
            rw [q] at hx ⊢
            rw [← (ex1.2.1 e hx).1]; exact q1
        · rcases q with q | q | q | q | q | ⟨q1', q2'⟩
          · exact Or.inl q
          · exact Or.inr (Or.inl q)
          · exact Or.inr (Or.inr (Or.inl q))
          · exact Or.inr (Or.inr (Or.inr (Or.inl q)))
          · exact Or.inr (Or.inr (Or.inr (Or.inr (Or.inl q))))
          · rw [Ak.2.2.1] at q1'
            have := Option.some.inj q1'
            subst this
            refine Or.inr (Or.inr (Or.inr (Or.inr (Or.inr ⟨hA.2.2.1, ?_⟩))))
            rw [(q3.2.1 _ (by omega)).1, (ex2.2.1 _ (by omega)).1, (ex1.2.1 _ hx).1] at q2'
            exact q2'
  exact loop 257 0 H2 (by omega) (by omega) yEx_refl (fun h h1 h2 => by omega) rfl p0 F2.1.2.2.1.2.2.2.2.1 p6 N6
end YBegin
