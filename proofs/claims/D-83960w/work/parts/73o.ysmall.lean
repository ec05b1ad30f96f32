set_option maxRecDepth 100000
/-! THE HOUSE'S PARSER: small steps that leave the step to the next token open -/
section YSmall
variable {B P : Nat → Prop} {C : YC} {X : Nat → Nat} {H : YS} {d s : Nat} {b : List Int} {Q : Option (Option ZV) → YS → Prop} {c k : Tok}
theorem y_takes (hKD : KD C) (hC : CW C) (hP : PsY C B X H c k) (hc : c.1 ≤ 6 ∧ c.2.2.1.length ≤ 10000) (hs : StrY B H s b) (h0 : ¬ (c.1 = 0 ∧ c.2.2.1 = b) → Q (some (some (.inl 0))) H) (h1 : c.1 = 0 ∧ c.2.2.1 = b → zW (zV (zc (YL C) (d + 3) 106 [zr (X 8)] H) fun h4 => yrN 1 1 h4) Q) : zW (YL C (d + 3) 108 [zr (X 8), zr s] H) Q := by
  obtain ⟨p1, p2, p3, p4, ⟨ac, p5, p6⟩, p7⟩ := hP
  refine yl_Parser_takes ?_
  unfold yb_Parser_takes
  refine zW_gR p2 rfl ?_
  rw [p5, ycv_s p6.2.1 ⟨by decide, rfl⟩]
  refine zW_Ie (y_tokIs hKD hC p6 hc.1 hc.2 hs) (zW_if (fun y => zW_rN rfl (h0 (fun q => ?_))) (fun y => ?_))
  · rw [if_pos q] at y; cases y
  · rw [ycv_s p2 ⟨by decide, rfl⟩]
    refine h1 ?_
    by_cases q : c.1 = 0 ∧ c.2.2.1 = b
    · exact q
    · rw [if_neg q] at y; exact absurd rfl y
theorem y_need (hKD : KD C) (hC : CW C) (hP : PsY C B X H c k) (hF : Lf C B X H) (hc : c.1 ≤ 6 ∧ c.2.2.1.length ≤ 10000) (hs : StrY B H s b) (h0 : ¬ (c.1 = 0 ∧ c.2.2.1 = b) → Q none (yThr X H 2 c.2.1)) (h1 : c.1 = 0 ∧ c.2.2.1 = b → zW (zc (YL C) (d + 3) 106 [zr (X 8)] H) (oV (fun H' => Q (some none) H') (fun H' => Q none H'))) : zW (YL C (d + 4) 119 [zr (X 8), zr s] H) Q := by
  have p2 := hP.2.1
  refine yl_Parser_need ?_
  unfold yb_Parser_need
  rw [ycv_s p2 ⟨by decide, rfl⟩]
  refine zW_I (P := fun v H' => (v = 0 ∧ H' = H ∧ ¬ (c.1 = 0 ∧ c.2.2.1 = b)) ∨ (v = 1 ∧ Q (some none) H')) (T := fun H' => Q none H') (zW_c (y_takes (d := d) hKD hC hP hc hs (fun q => Or.inl ⟨rfl, rfl, q⟩) (fun q => ?_))) ?_ (fun _ q => q)
  · exact zW_V (h1 q) (fun H' q => zW_rN rfl (Or.inr ⟨rfl, q⟩)) (fun H' q => q)
  · rintro v H' (⟨rfl, rfl, q⟩ | ⟨rfl, q⟩)
    · exact zW_t rfl (zW_synt (d := d + 2) hP hF (h0 q))
    · exact zW_f (by decide) (zW_rV q)
theorem y_opens (hP : PsY C B X H c k) (hF : Lf C B X H) (h48 : 0 ≤ yI H 1806 (X 8) ∧ yI H 1806 (X 8) ≤ 40) (h0 : yI H 1806 (X 8) = 40 → Q none (yThr X H 3 c.2.1)) (h1 : yI H 1806 (X 8) < 40 → zW (zV (zc (YL C) (d + 1) 106 [zr (X 8)] (yput H 1806 (X 8) (yI H 1806 (X 8) + 1))) fun h12 => zrI (c.2.1 : Int) h12) Q) : zW (YL C (d + 1) 117 [zr (X 8)] H) Q := by
  obtain ⟨p1, p2, p3, p4, ⟨ac, p5, p6⟩, p7⟩ := hP
  refine yl_Parser_opens ?_
  unfold yb_Parser_opens
  refine zW_gI p2 rfl (zW_if (fun y => zW_gR p2 rfl (zW_gR p2 rfl ?_)) (fun y => zW_gI p2 rfl (zW_G (by omega) (zW_pI p2 (by decide) rfl (zW_gR (by exact p2) rfl ?_)))))
  · rw [p3, p5]
    refine zW_gI p6.2.1 rfl ?_
    rw [p6.2.2.2.1, ycv_s hF.1.2.1.2.2.2.1 ⟨by decide, rfl⟩]
    exact zW_Qe (y_at hF) (zW_ythrow (by exact hF.1.2.1.2.2.2.2.1) (h0 y))
  · rw [show yR (yput H 1806 (X 8) (yI H 1806 (X 8) + 1)) 1804 (X 8) = some ac from p5]
    refine zW_gI (by exact p6.2.1) rfl ?_
    rw [show yI (yput H 1806 (X 8) (yI H 1806 (X 8) + 1)) 6601 ac = (c.2.1 : Int) from (yput_f (by decide)).trans p6.2.2.2.1, ycv_s (H := yput H 1806 (X 8) (yI H 1806 (X 8) + 1)) p2 ⟨by decide, rfl⟩]
    exact zW_let (h1 (by omega))
end YSmall
