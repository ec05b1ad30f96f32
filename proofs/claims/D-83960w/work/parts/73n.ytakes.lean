set_option maxRecDepth 100000
/-! TOKENS ARE SHORT; the House's parser: its state, what is wrong -/
section Short
variable {t : List Int} {a j n i : Nat} {k : Tok}
theorem sl_le {m : Nat} : (sl t a m).length ≤ m := by
  unfold sl
  rw [List.length_take]
  omega
theorem sNamed_short {e : Nat} (h : sNamed t a e = .inr (k, j)) : k.2.2.1.length ≤ 200 := by
  unfold sNamed at h
  split at h
  · cases h
  · have : (sl t a (e - a)).length ≤ e - a := sl_le
    cases h
    show (sl t a (j - a)).length ≤ 200
    omega
theorem sTok_short (h : sTok t a = .inr (k, j)) : k.2.2.1.length ≤ 200 := by
  unfold sTok at h
  split at h
  · exact sNamed_short h
  split at h
  · unfold sVar at h
    generalize (if tch t (a + 1) = 39 then a + 2 else a + 1) = e0 at h
    split at h
    · split at h
      · cases h
      · have : (sl t a (sSkip sGoes t e0 - a)).length ≤ sSkip sGoes t e0 - a := sl_le
        cases h
        show (sl t a (sSkip sGoes t e0 - a)).length ≤ 200
        omega
    · cases h
  split at h
  · unfold sInt at h
    split at h
    · split at h
      · cases h
      · cases h
        show ([126] : List Int).length ≤ 200
        decide
    · split at h
      · cases h
      · cases h
        exact Nat.zero_le _
  split at h
  · unfold sString at h
    split at h
    · cases h
    · next bb jj e =>
      by_cases q : 200 < bb.length
      · rw [if_pos q] at h; cases h
      · rw [if_neg q] at h
        cases h
        exact Nat.le_of_not_lt q
  split at h
  · unfold sChar at h
    split at h
    · cases h
    · next bb jj e =>
      by_cases q : bb.length ≠ 1
      · rw [if_pos q] at h; cases h
      · rw [if_neg q] at h
        cases h
        have q : bb.length = 1 := Classical.byContradiction q
        exact Nat.le_trans (Nat.le_of_eq q) (by decide)
  split at h
  · exact sNamed_short h
  unfold sOther at h
  split at h
  · split at h
    · cases h
    · split at h
      · cases h
      · exact sNamed_short h
  · split at h
    · exact sNamed_short h
    · cases h
theorem sRead_short (hT : tOK t) (h : sRead t n i = .inr (k, j)) : k.1 ≤ 6 ∧ k.2.2.1.length ≤ 200 := by
  unfold sRead at h
  split at h
  · cases h
  · next j0 e =>
    split at h
    · cases h
      exact ⟨by show 6 ≤ 6; omega, Nat.zero_le _⟩
    · split at h
      · cases h
      · refine ⟨?_, sTok_short h⟩
        by_cases hj : j0 < t.length
        · have := (sTok_in hT hj h).1
          omega
        · rename_i q1 q2
          exfalso
          have hc := tch_in hT j0
          have hl := tch_lt hT j0
          have h1 : tch t j0 = -1 := by omega
          unfold sTok at h
          rw [h1] at h
          have hd : ¬ (sDigit (-1) = true ∨ ((-1 : Int) = 126 ∧ sDigit (tch t (j0 + 1)) = true)) := fun q => q.elim (fun q => absurd q (by decide)) (fun q => absurd q.1 (by decide))
          rw [if_neg (by decide), if_neg (by decide), if_neg hd, if_neg (by decide), if_neg (fun q => absurd q.1 (by decide)), if_neg (by decide)] at h
          unfold sOther at h
          rw [h1, if_neg (by decide), if_neg (by omega)] at h
          cases h
end Short
section YWr
variable {B P : Nat → Prop} {C : YC} {X : Nat → Nat} {H : YS} {d : Nat} {Q : Option (Option ZV) → YS → Prop} {c k : Tok}
/-- SYNTAX, at the token at hand -/
theorem zW_synt (hP : PsY C B X H c k) (hF : Lf C B X H) (h : Q none (yThr X H 2 c.2.1)) : zW (zQ (ycv (YL C) (d + 2) [(6, 115)] (some (X 8)) [] H) fun v h => ythrow v h) Q := by
  obtain ⟨p1, p2, p3, p4, ⟨ac, p5, p6⟩, p7⟩ := hP
  have e1 : YL C (d + 1) 115 [zr (X 8)] H = some (some (some (.inr (.inr (some (X 4))))), yThr X H 2 c.2.1) := by
    refine zW_get (yl_Parser_wrong ?_)
    unfold yb_Parser_wrong
    refine zW_gR p2 rfl (zW_gR p2 rfl ?_)
    rw [p3, p5]
    refine zW_gI p6.2.1 rfl ?_
    rw [p6.2.2.2.1, ycv_s hF.1.2.1.2.2.2.1 ⟨by decide, rfl⟩]
    exact zW_Qe (y_at hF) (zW_rQ ⟨rfl, rfl⟩)
  rw [ycv_s p2 ⟨by decide, rfl⟩]
  exact zW_Qe e1 (zW_ythrow (by exact hF.1.2.1.2.2.2.2.1) h)
end YWr
