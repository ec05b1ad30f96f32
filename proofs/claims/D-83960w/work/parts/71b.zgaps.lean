set_option maxRecDepth 100000
/-! THE REFERENCE'S LEXER: signs, what lies between tokens -/
theorem bI_0 {b : Bool} : bI b = 0 ↔ b = false := by cases b <;> simp [bI]
theorem bI_1 {b : Bool} : ¬ bI b = 0 ↔ b = true := by cases b <;> simp [bI]
theorem zput_put {S : ZS} {f : Nat} {a b : Int} : zput (zput S f a) f b = zput S f b := by
  unfold zput
  congr 1
  funext g
  dsimp only
  split <;> rfl
theorem zput_self {S : ZS} {f : Nat} {a : Int} (h : S.1 f = a) : zput S f a = S := by
  unfold zput
  have : (fun g => if g = f then a else S.1 g) = S.1 := by
    funext g
    split
    · next e => rw [e, h]
    · rfl
  rw [this]
/-- thrown -/
def zthr (S : ZS) (e p : Int) : ZS := zput (zput S 31 e) 32 p
section ZLex
variable {d : Nat} {t : List Int} {S : ZS} {i : Nat} {c : Int} {Q : Option (Option ZV) → ZS → Prop}
theorem zW_thr {e p : Int} (h : Q none (zthr S e p)) : zW (zthrow e p S) Q := zW_s h
theorem z_isDigit : ZL d 33 [.inl c] S = some (some (some (.inl (bI (sDigit c)))), S) := by
  refine zW_get (zl_isDigit ?_)
  unfold zb_isDigit
  repeat' (first | (refine zW_rZ (by decide) ⟨?_, rfl⟩) | (refine zW_if (fun z => ?_) (fun z => ?_)))
  all_goals (unfold bI sDigit; first | rw [if_pos (by simp; omega)] | rw [if_neg (by simp; omega)])
theorem z_goesOn : ZL (d + 1) 32 [.inl c] S = some (some (some (.inl (bI (sGoes c)))), S) := by
  refine zW_get (zl_goesOn ?_)
  unfold zb_goesOn
  refine zW_Ie z_isLetter (zW_if (fun z => zW_Ie z_isDigit ?_) (fun z => ?_))
  · rw [bI_0] at z
    refine zW_if (fun z1 => ?_) (fun z1 => ?_)
    · rw [bI_0] at z1
      repeat' (first | (refine zW_rZ (by decide) ⟨?_, rfl⟩) | (refine zW_if (fun z => ?_) (fun z => ?_)))
      all_goals (simp [bI, sGoes, *])
    · rw [bI_1] at z1
      refine zW_rZ (by decide) ⟨?_, rfl⟩
      simp [bI, sGoes, *]
  · rw [bI_1] at z
    refine zW_rZ (by decide) ⟨?_, rfl⟩
    simp [bI, sGoes, *]
theorem z_isSign : ZL d 40 [.inl c] S = some (some (some (.inl (bI (sSign c)))), S) := by
  refine zW_get (zl_isSign ?_)
  unfold zb_isSign
  repeat' (first | (refine zW_rZ (by decide) ⟨?_, rfl⟩) | (refine zW_if (fun z => ?_) (fun z => ?_)))
  all_goals (simp [bI, sSign, *])
/-- a note, opened at b, deep dp -/
def sNote (t : List Int) (b dp i : Nat) : (Int × Nat) ⊕ Nat :=
  if dp = 0 then .inr i else
  if i < t.length then
    if tch t i = 40 ∧ tch t (i + 1) = 42 then sNote t b (dp + 1) (i + 2) else
    if tch t i = 42 ∧ tch t (i + 1) = 41 then sNote t b (dp - 1) (i + 2) else
    if sBlank (tch t i) = true ∨ (33 ≤ tch t i ∧ tch t i ≤ 126) then sNote t b dp (i + 1) else .inl (1, i)
  else .inl (1, b)
termination_by t.length - i
def sGaps (t : List Int) (i : Nat) : (Int × Nat) ⊕ Nat :=
  if i < t.length then
    if sBlank (tch t i) = true then sGaps t (i + 1) else
    if tch t i = 40 ∧ tch t (i + 1) = 42 then (match sNote t i 1 (i + 2) with
      | .inl e => .inl e
      | .inr j => if i < j then sGaps t j else .inr j)
    else .inr i
  else .inr i
termination_by t.length - i
theorem z_note : ∀ (n dp i : Nat) (S : ZS) (b : Nat), t.length < n + i → Lx S t → S.1 27 = (i : Int) → i ≤ t.length → dp ≤ i →
    (∀ k (e : Int) (p : Nat), sNote t b dp i = .inl (e, p) → Q none (zthr (zput S 27 k) e p)) →
    (∀ j, sNote t b dp i = .inr j → i ≤ j → j ≤ t.length → zW (ZL (d + 1) 26 [] (zput S 27 j)) Q) →
    zW (ZL (d + 1) 358 [.inl (b : Int), .inl (dp : Int)] S) Q := by
  intro n
  induction n with
  | zero => intro dp i S b hn hL ha hi; omega
  | succ n ih =>
    intro dp i S b hn hL ha hi hd ke kr
    have hl := hL.2.1.1
    have hin := tch_in hL.2.1 i
    have hlt := tch_lt hL.2.1 i
    have hlt1 := tch_lt hL.2.1 (i + 1)
    rw [sNote] at ke kr
    refine zl_gaps_p60 ?_
    unfold zb_gaps_p60
    refine zW_if (fun z => ?_) (fun z => ?_)
    · rw [if_pos (by omega)] at kr
      have := kr i rfl (Nat.le_refl _) hi
      rw [zput_self ha] at this
      exact this
    · rw [if_neg (by omega)] at ke kr
      refine zW_Ie (z_here hL ha (by omega)) (zW_let (zW_if (fun z1 => ?_) (fun z1 => ?_)))
      · rw [if_neg (by omega)] at ke
        have := ke i 1 b rfl
        rw [zput_self ha] at this
        exact zW_thr this
      · rw [if_pos (by omega)] at ke kr
        have step : ∀ (dp' i' : Nat), i < i' → i' ≤ t.length → dp' ≤ i' → (∀ k (e : Int) (p : Nat), sNote t b dp' i' = .inl (e, p) → Q none (zthr (zput S 27 k) e p)) → (∀ j, sNote t b dp' i' = .inr j → i ≤ j → j ≤ t.length → zW (ZL (d + 1) 26 [] (zput S 27 j)) Q) → zW (ZL (d + 1) 358 [.inl (b : Int), .inl (dp' : Int)] (zput S 27 i')) Q := by
          intro dp' i' h1 h2 h3 h4 h5
          refine ih dp' i' (zput S 27 i') b (by omega) (by rw [Lx_put (by decide)]; exact hL) rfl h2 h3 (fun k e p h => ?_) (fun j h g1 g2 => ?_)
          · rw [zput_put]; exact h4 k e p h
          · rw [zput_put]; exact h5 j h (by omega) g2
        have c3 : ¬ (tch t i = 40 ∧ tch t (i + 1) = 42) → ¬ (tch t i = 42 ∧ tch t (i + 1) = 41) → zW (ZL (d + 1) 707 [.inl (b : Int), .inl (dp : Int), .inl (tch t i)] S) Q := by
          intro g1 g2
          rw [if_neg g1, if_neg g2] at ke kr
          have good : (sBlank (tch t i) = true ∨ (33 ≤ tch t i ∧ tch t i ≤ 126)) → zW (ZL (d + 1) 782 [.inl (b : Int), .inl (dp : Int)] S) Q := by
            intro g3
            rw [if_pos g3] at ke kr
            refine zl_gaps_p174 ?_
            unfold zb_gaps_p174
            refine zW_G (by omega) (zW_p ?_)
            rw [show S.1 27 + 1 = ((i + 1 : Nat) : Int) by omega]
            exact step dp (i + 1) (by omega) (by omega) (by omega) ke kr
          have bad : ¬ (sBlank (tch t i) = true ∨ (33 ≤ tch t i ∧ tch t i ≤ 126)) → zW (zthrow 1 (S.1 27) S) Q := by
            intro g3
            rw [if_neg g3] at ke
            have := ke i 1 i rfl
            rw [zput_self ha] at this
            rw [ha]
            exact zW_thr this
          refine zl_gaps_p145 ?_
          unfold zb_gaps_p145
          refine zW_Ie z_isBlank (zW_if (fun y => ?_) (fun y => ?_))
          · rw [bI_0] at y
            refine zW_if (fun y1 => bad ?_) (fun y1 => zW_if (fun y2 => good (Or.inr (by omega))) (fun y2 => bad ?_))
            · rw [y]; simp; omega
            · rw [y]; simp; omega
          · rw [bI_1] at y
            exact good (Or.inl y)
        have c2 : ¬ (tch t i = 40 ∧ tch t (i + 1) = 42) → zW (ZL (d + 1) 586 [.inl (b : Int), .inl (dp : Int), .inl (tch t i)] S) Q := by
          intro g1
          refine zl_gaps_p113 ?_
          unfold zb_gaps_p113
          refine zW_if (fun y => zW_Ie (z_behind (j := i + 1) hL (by omega) (by omega)) (zW_if (fun y1 => ?_) (fun y1 => ?_))) (fun y => ?_)
          · rw [if_neg g1, if_pos ⟨y, y1⟩] at ke kr
            refine zW_G (by omega) (zW_let (zW_G (by omega) (zW_p ?_)))
            rw [show (dp : Int) + (-1) = ((dp - 1 : Nat) : Int) by omega, show S.1 27 + 2 = ((i + 2 : Nat) : Int) by omega]
            exact step (dp - 1) (i + 2) (by omega) (by omega) (by omega) ke kr
          · exact c3 g1 (fun q => y1 q.2)
          · exact c3 g1 (fun q => y q.1)
        refine zW_if (fun y => zW_Ie (z_behind (j := i + 1) hL (by omega) (by omega)) (zW_if (fun y1 => ?_) (fun y1 => ?_))) (fun y => ?_)
        · rw [if_pos ⟨y, y1⟩] at ke kr
          refine zW_G (by omega) (zW_let (zW_G (by omega) (zW_p ?_)))
          rw [show (dp : Int) + 1 = ((dp + 1 : Nat) : Int) by omega, show S.1 27 + 2 = ((i + 2 : Nat) : Int) by omega]
          exact step (dp + 1) (i + 2) (by omega) (by omega) (by omega) ke kr
        · exact c2 (fun q => y1 q.2)
        · exact c2 (fun q => y q.1)
theorem z_gaps : ∀ (n i : Nat) (S : ZS), t.length < n + i → Lx S t → S.1 27 = (i : Int) → i ≤ t.length →
    (∀ k (e : Int) (p : Nat), sGaps t i = .inl (e, p) → Q none (zthr (zput S 27 k) e p)) →
    (∀ j, sGaps t i = .inr j → i ≤ j → j ≤ t.length → Q (some none) (zput S 27 j)) →
    zW (ZL (d + 1) 26 [] S) Q := by
  intro n
  induction n with
  | zero => intro i S hn hL ha hi; omega
  | succ n ih =>
    intro i S hn hL ha hi ke kr
    have hl := hL.2.1.1
    have hin := tch_in hL.2.1 i
    have hlt := tch_lt hL.2.1 i
    have hlt1 := tch_lt hL.2.1 (i + 1)
    rw [sGaps] at ke kr
    have again : ∀ i' : Nat, i < i' → i' ≤ t.length → (∀ k (e : Int) (p : Nat), sGaps t i' = .inl (e, p) → Q none (zthr (zput S 27 k) e p)) → (∀ j, sGaps t i' = .inr j → i ≤ j → j ≤ t.length → Q (some none) (zput S 27 j)) → zW (ZL (d + 1) 26 [] (zput S 27 i')) Q := by
      intro i' h1 h2 h3 h4
      refine ih i' (zput S 27 i') (by omega) (by rw [Lx_put (by decide)]; exact hL) rfl h2 (fun k e p h => ?_) (fun j h g1 g2 => ?_)
      · rw [zput_put]; exact h3 k e p h
      · rw [zput_put]; exact h4 j h (by omega) g2
    have stop : ¬ (i < t.length ∧ (sBlank (tch t i) = true ∨ (tch t i = 40 ∧ tch t (i + 1) = 42))) → zW (zrV S) Q := by
      intro g
      have : Q (some none) (zput S 27 i) := by
        by_cases h1 : i < t.length
        · rw [if_pos h1, if_neg (fun q => g ⟨h1, Or.inl q⟩), if_neg (fun q => g ⟨h1, Or.inr q⟩)] at kr
          exact kr i rfl (Nat.le_refl _) hi
        · rw [if_neg h1] at kr
          exact kr i rfl (Nat.le_refl _) hi
      rw [zput_self ha] at this
      exact zW_rV this
    refine zl_gaps ?_
    unfold zb_gaps
    refine zW_Ie (z_here hL ha (by omega)) (zW_Ie z_isBlank (zW_if (fun y => ?_) (fun y => ?_)))
    · rw [bI_0] at y
      refine zW_Ie (z_here hL ha (by omega)) (zW_if (fun y1 => zW_Ie (z_behind (j := i + 1) hL (by omega) (by omega)) (zW_if (fun y2 => ?_) (fun y2 => ?_))) (fun y1 => ?_))
      · rw [if_pos (by omega), if_neg (by rw [y]; simp), if_pos ⟨y1, y2⟩] at ke kr
        refine zW_let (zW_let (zW_G (by omega) (zW_p ?_)))
        rw [show S.1 27 + 2 = ((i + 2 : Nat) : Int) by omega, ha]
        refine z_note (t := t) (t.length + 1) 1 (i + 2) (zput S 27 ((i + 2 : Nat) : Int)) i (by omega) (by rw [Lx_put (by decide)]; exact hL) rfl (by omega) (by omega) (fun k e p h => ?_) (fun j h g1 g2 => ?_)
        · rw [h] at ke
          rw [zput_put]; exact ke k e p rfl
        · rw [h] at ke kr
          dsimp only at ke kr
          rw [if_pos (by omega)] at ke kr
          rw [zput_put]
          exact again j (by omega) g2 ke kr
      · exact stop (fun q => q.2.elim (fun q => by rw [y] at q; cases q) (fun q => y2 q.2))
      · exact stop (fun q => q.2.elim (fun q => by rw [y] at q; cases q) (fun q => y1 q.1))
    · rw [bI_1] at y
      have hb : i < t.length := by
        rw [hlt]
        have := of_decide_eq_true y
        omega
      rw [if_pos hb, if_pos y] at ke kr
      refine zW_G (by omega) (zW_p ?_)
      rw [show S.1 27 + 1 = ((i + 1 : Nat) : Int) by omega]
      exact again (i + 1) (by omega) (by omega) ke kr
end ZLex
