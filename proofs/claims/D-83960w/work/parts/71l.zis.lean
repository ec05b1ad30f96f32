set_option maxRecDepth 100000
/-! THE REFERENCE'S PARSER: a token's word; small steps that leave the step to the next token open -/
section ZIs
variable {d : Nat} {t : List Int} {W W' : List (List Int)} {S S0 S' : ZS} {Q : Option (Option ZV) → ZS → Prop} {c k : Tok} {m : Nat}
theorem z_is (hC : TkC S W c) (hN : NW S W) (hm : m < 44) : ZL d 45 [.inl (m : Int)] S = some (some (some (.inl (if c.1 = 0 ∧ c.2.2.1 = sKept.getD m [] then 1 else 0))), S) := by
  obtain ⟨h1, h2, h3, h4⟩ := hC
  have h44 : sKept.length = 44 := by decide
  refine zW_get (zl_is ?_)
  unfold zb_is
  rw [h1]
  refine zW_if (fun y => ?_) (fun y => ?_)
  · have hc : c.1 = 0 := by omega
    obtain ⟨w, q1, q2, q3⟩ := h3 (by omega)
    have hWl := hN.2.1.length_le
    rw [q2]
    refine zW_if (fun z => zW_rZ (by decide) ⟨?_, rfl⟩) (fun z => zW_rZ (by decide) ⟨?_, rfl⟩)
    · have : w = m := by omega
      subst this
      rw [if_pos ⟨hc, by rw [← q3]; exact getD_pre hN.2.1 (by omega)⟩]
    · rw [if_neg]
      rintro ⟨-, q⟩
      rw [← q3, ← getD_pre hN.2.1 (i := m) (by omega)] at q
      have := nodup_getD hN.1.2.2.2.2.1 q1 (by omega) q
      omega
  · refine zW_rZ (by decide) ⟨?_, rfl⟩
    rw [if_neg]
    rintro ⟨q, -⟩
    omega
/-- a word is needed: the step is left open -/
theorem z_need (hC : TkC S W c) (hN : NW S W) (hm : m < 44) (h0 : ¬ (c.1 = 0 ∧ c.2.2.1 = sKept.getD m []) → Q none (zthr S 2 c.2.1)) (h1 : c.1 = 0 ∧ c.2.2.1 = sKept.getD m [] → zW (zV (zc ZL (d + 1) 43 [] S) fun S3 => zrV S3) Q) : zW (ZL (d + 1) 50 [.inl (m : Int)] S) Q := by
  refine zl_need ?_
  unfold zb_need
  refine zW_Ie (z_is hC hN hm) (zW_if (fun y => ?_) (fun y => h1 ?_))
  · rw [hC.2.1]
    refine zW_thr (h0 (fun q => ?_))
    rw [if_pos q] at y
    cases y
  · by_cases q : c.1 = 0 ∧ c.2.2.1 = sKept.getD m []
    · exact q
    · rw [if_neg q] at y; exact absurd rfl y
theorem z_opens (hC : TkC S W c) (h48 : 0 ≤ S.1 48 ∧ S.1 48 ≤ 40) (h0 : S.1 48 = 40 → Q none (zthr S 3 c.2.1)) (h1 : S.1 48 < 40 → zW (zV (zc ZL d 43 [] (zput S 48 (S.1 48 + 1))) fun S2 => zrV S2) Q) : zW (ZL d 49 [] S) Q := by
  refine zl_opens ?_
  unfold zb_opens
  refine zW_if (fun y => ?_) (fun y => zW_G (by omega) (zW_p (h1 (by omega))))
  rw [hC.2.1]
  exact zW_thr (h0 y)
theorem z_closes (hC : TkC S W c) (hN : NW S W) (hm : m < 44) (h48 : 0 < S.1 48 ∧ S.1 48 ≤ 40) (h0 : ¬ (c.1 = 0 ∧ c.2.2.1 = sKept.getD m []) → Q none (zthr S 2 c.2.1)) (h1 : c.1 = 0 ∧ c.2.2.1 = sKept.getD m [] → zW (zV (zc ZL (d + 1) 43 [] (zput S 48 (S.1 48 - 1))) fun S3 => zrV S3) Q) : zW (ZL (d + 1) 51 [.inl (m : Int)] S) Q := by
  refine zl_closes ?_
  unfold zb_closes
  refine zW_Ie (z_is hC hN hm) (zW_if (fun y => ?_) (fun y => zW_G (by omega) (zW_p (h1 ?_))))
  · rw [hC.2.1]
    refine zW_thr (h0 (fun q => ?_))
    rw [if_pos q] at y
    cases y
  · by_cases q : c.1 = 0 ∧ c.2.2.1 = sKept.getD m []
    · exact q
    · rw [if_neg q] at y; exact absurd rfl y
end ZIs
