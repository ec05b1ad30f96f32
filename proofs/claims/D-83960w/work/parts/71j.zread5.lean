set_option maxRecDepth 100000
/-! THE REFERENCE READS THE NEXT TOKEN; where it ends, plain -/
section Plain
variable {t : List Int}
theorem sEsc_j (hT : tOK t) {i j : Nat} {v : Int} (h : sEsc t i = .inr (v, j)) : i < j ∧ j ≤ t.length := by
  have h0 := tch_lt hT i
  have h1 := tch_lt hT (i + 1)
  have h2 := tch_lt hT (i + 2)
  unfold sEsc at h
  split at h
  · cases h; omega
  · split at h
    · cases h; omega
    · split at h
      · cases h; omega
      · split at h
        · cases h
        · next w1 e1 =>
          split at h
          · cases h
          · next w2 e2 =>
            split at h
            · cases h
            · next w3 e3 =>
              cases h
              unfold sDig at e3
              split at e3
              · next q => have := of_decide_eq_true q.1; omega
              · cases e3
theorem sStr_j (hT : tOK t) : ∀ (n i : Nat) (acc b : List Int) (j : Nat), t.length < n + i → sStr t i acc = .inr (b, j) → i < j ∧ j ≤ t.length ∧ b.length + i < acc.length + j := by
  intro n
  induction n with
  | zero =>
    intro i acc b j h1 h
    rw [sStr, if_neg (by omega)] at h
    cases h
  | succ n ih =>
    intro i acc b j h1 h
    rw [sStr] at h
    split at h
    · split at h
      · cases h; omega
      · split at h
        · split at h
          · cases h
          · next v j' e =>
            have hj := sEsc_j hT e
            rw [if_pos (by omega)] at h
            have := ih j' _ b j (by omega) h
            rw [List.length_append] at this
            have g : b.length + j' < acc.length + 1 + j := this.2.2
            omega
        · split at h
          · cases h
          · have := ih (i + 1) _ b j (by omega) h
            rw [List.length_append] at this
            have g : b.length + (i + 1) < acc.length + 1 + j := this.2.2
            omega
    · cases h
theorem sSignEnd_in : ∀ (n i : Nat), t.length < n + i → i ≤ t.length → i ≤ sSignEnd t i ∧ sSignEnd t i ≤ t.length := by
  intro n
  induction n with
  | zero => intro i h1 h2; omega
  | succ n ih =>
    intro i h1 h2
    rw [sSignEnd]
    split
    · next q => have := ih (i + 1) (by omega) (by omega); omega
    · omega
theorem sNum_in : ∀ (n i : Nat) (v : Int), t.length < n + i → i ≤ t.length → i ≤ (sNum t i v).2 ∧ (sNum t i v).2 ≤ t.length := by
  intro n
  induction n with
  | zero => intro i v h1 h2; omega
  | succ n ih =>
    intro i v h1 h2
    rw [sNum]
    split
    · next q => have := ih (i + 1) (10 * v + (tch t i - 48)) (by omega) (by omega); omega
    · exact ⟨Nat.le_refl _, h2⟩
/-- a token's kind, place, end, bytes -/
def TkIn (t : List Int) (a : Nat) (k : Tok) (j : Nat) : Prop := k.1 < 6 ∧ k.2.1 = a ∧ a < j ∧ j ≤ t.length ∧ kB k ≤ j - a
theorem sNamed_in {a e j : Nat} {k : Tok} (h1 : a < e) (h2 : e ≤ t.length) (h : sNamed t a e = .inr (k, j)) : TkIn t a k j := by
  unfold sNamed at h
  split at h
  · cases h
  · split at h
    · cases h
      exact ⟨by show 0 < 6; decide, rfl, h1, h2, Nat.zero_le _⟩
    · cases h
      exact ⟨by show 1 < 6; decide, rfl, h1, h2, Nat.zero_le _⟩
theorem sTok_in (hT : tOK t) {a j : Nat} {k : Tok} (ha : a < t.length) (h : sTok t a = .inr (k, j)) : TkIn t a k j := by
  have h1 := tch_lt hT (a + 1)
  have h2 := tch_lt hT (a + 2)
  unfold sTok at h
  split at h
  · next q =>
    unfold sName at h
    have := sSkip_ge' (p := sGoes) (t := t) (i := a + 1) (by omega)
    have e : sSkip sGoes t a = sSkip sGoes t (a + 1) := by
      conv => lhs; rw [sSkip]
      rw [if_pos ⟨ha, by unfold sGoes; rw [q]; rfl⟩]
    rw [e] at h
    exact sNamed_in (by omega) this.2 h
  split at h
  · unfold sVar at h
    have hb : a < (if tch t (a + 1) = 39 then a + 2 else a + 1) ∧ (if tch t (a + 1) = 39 then a + 2 else a + 1) ≤ t.length := by split <;> omega
    generalize (if tch t (a + 1) = 39 then a + 2 else a + 1) = e0 at h hb
    split at h
    · split at h
      · cases h
      · cases h
        have := sSkip_ge' (p := sGoes) hb.2
        exact ⟨by show 2 < 6; decide, rfl, by omega, this.2, Nat.zero_le _⟩
    · cases h
  split at h
  · next q =>
    unfold sInt at h
    split at h
    · split at h
      · cases h
      · cases h
        have := sNum_in (t := t) (t.length + 1) (a + 1) 0 (by omega) (by omega)
        exact ⟨by show 3 < 6; decide, rfl, by omega, this.2, Nat.zero_le _⟩
    · next q1 =>
      split at h
      · cases h
      · cases h
        have hd : sDigit (tch t a) = true := q.elim id (fun z => absurd z.1 q1)
        have := sNum_in (t := t) (t.length + 1) (a + 1) (10 * 0 + (tch t a - 48)) (by omega) (by omega)
        have e : sNum t a 0 = sNum t (a + 1) (10 * 0 + (tch t a - 48)) := by
          conv => lhs; rw [sNum]
          rw [if_pos ⟨ha, hd⟩]
        rw [e]
        exact ⟨by show 3 < 6; decide, rfl, by omega, this.2, Nat.zero_le _⟩
  split at h
  · unfold sString at h
    split at h
    · cases h
    · next b j' e =>
      have := sStr_j hT (t.length + 1) _ _ _ _ (by omega) e
      split at h
      · cases h
      · cases h
        have g : b.length + (a + 1) < 0 + j := this.2.2
        exact ⟨by show 4 < 6; decide, rfl, by omega, this.2.1, by show 1 + b.length ≤ j - a; omega⟩
  split at h
  · unfold sChar at h
    split at h
    · cases h
    · next b j' e =>
      have := sStr_j hT (t.length + 1) _ _ _ _ (by omega) e
      split at h
      · cases h
      · cases h
        have g : b.length + (a + 2) < 0 + j := this.2.2
        exact ⟨by show 5 < 6; decide, rfl, by omega, this.2.1, by show 1 + b.length ≤ j - a; omega⟩
  split at h
  · unfold sSigns at h
    have := sSignEnd_in (t := t) (t.length + 1) (a + 1) (by omega) (by omega)
    exact sNamed_in (by omega) this.2 h
  unfold sOther at h
  split at h
  · next q =>
    split at h
    · cases h
    · next q1 =>
      have q1 : tch t (a + 1) = 46 := Classical.byContradiction q1
      split at h
      · cases h
      · next q2 =>
        have q2 : tch t (a + 2) = 46 := Classical.byContradiction q2
        exact sNamed_in (by omega) (by omega) h
  · split at h
    · exact sNamed_in (by omega) (by omega) h
    · cases h
end Plain
section ZRd5
variable {d : Nat} {t : List Int} {W : List (List Int)} {S S0 S' : ZS} {Q : Option (Option ZV) → ZS → Prop}
def FR1 : List Nat := 23 :: 28 :: FR0
def FE1 : List Nat := 23 :: 28 :: FE0
/-- the next token is read -/
def ReOk (S : ZS) (W : List (List Int)) (k : Tok) (j : Nat) (S' : ZS) : Prop := zAg FR1 AR0 S S' ∧ S'.1 28 = S.1 28 + (if k.1 = 6 then 0 else 1) ∧ S'.1 27 = (j : Int) ∧ (∃ W', W <+: W' ∧ W'.length ≤ W.length + 1 ∧ off W' W'.length ≤ off W W.length + 30 ∧ NT S' W' ∧ TkM S' W' k) ∧ S'.1 30 = S.1 30 + kB k ∧ ∀ i : Int, i < S.1 30 → S'.2.2.1 9 i = S.2.2.1 9 i
def ReEr (S : ZS) (e : Int) (p : Nat) (S' : ZS) : Prop := zAg FE1 [9] S S' ∧ S'.1 31 = e ∧ S'.1 32 = (p : Int) ∧ ∀ i : Int, i < S.1 30 → S'.2.2.1 9 i = S.2.2.1 9 i
theorem z_read {n i : Nat} (hQ1 : ∀ k j S', sRead t n i = .inr (k, j) → ReOk S W k j S' → Q (some none) S') (hQ2 : ∀ (x : Int) p S', sRead t n i = .inl (x, p) → ReEr S x p S' → Q none S') (hL : Lx S t) (hN : NW S W) (h27 : S.1 27 = (i : Int)) (h28 : S.1 28 = (n : Int)) (hn : n ≤ 100000) (hi : i ≤ t.length) (h30 : 0 ≤ S.1 30) (hB : S.1 30 + t.length < 183990) :
    zW (ZL (d + 3) 25 [] S) Q := by
  have hT := hL.2.1.1
  unfold sRead at hQ1 hQ2
  refine zl_read ?_
  unfold zb_read
  refine zW_V (P := fun S1 => ∃ j, sGaps t i = .inr j ∧ i ≤ j ∧ j ≤ t.length ∧ S1 = zput S 27 j) (T := fun S1 => Q none S1) (zW_c (z_gaps (t := t) (t.length + 1) i S (by omega) hL h27 hi (fun k e p h => ?_) (fun j h g1 g2 => ⟨j, h, g1, g2, rfl⟩))) ?_ (fun S' q => q)
  · rw [h] at hQ2
    exact hQ2 e p _ rfl ⟨zAg_put (by decide) (zAg_put (by decide) (zAg_put (by decide) zAg_refl)), rfl, rfl, fun _ _ => rfl⟩
  · rintro S1 ⟨j, h, g1, g2, rfl⟩
    rw [h] at hQ1 hQ2
    dsimp only at hQ1 hQ2
    have h6 := hL.1
    refine zW_p (zW_p (zW_if (fun y => ?_) (fun y => ?_)))
    · have y : (j : Int) = S.1 6 := y
      rw [if_pos (by omega)] at hQ1
      refine zW_rV (hQ1 _ j _ rfl ⟨zAg_put (by decide) (zAg_put (by decide) (zAg_put (by decide) zAg_refl)), ?_, rfl, ⟨W, List.prefix_rfl, by omega, by omega, NT_put (by decide) (by decide) (NT_put (by decide) (by decide) (NW_put hN).1), rfl, rfl, fun q => absurd (show (6 : Nat) < 3 from q) (by decide), fun q => absurd (show (6 : Nat) = 3 from q) (by decide), fun q => absurd (show (6 : Nat) = 4 from q) (by decide), fun q => absurd (show (6 : Nat) = 5 from q) (by decide)⟩, ?_, fun x hx => rfl⟩)
      · show S.1 28 = S.1 28 + 0; omega
      · show S.1 30 = S.1 30 + ((0 : Nat) : Int); omega
    · have y : ¬ (j : Int) = S.1 6 := y
      rw [if_neg (by omega)] at hQ1 hQ2
      have hjl : j < t.length := by omega
      refine zW_G (by show inI (S.1 28 + 1); omega) (zW_p (zW_if (fun y1 => ?_) (fun y1 => ?_)))
      · have y1 : S.1 28 + 1 ≤ 1000 := y1
        rw [if_neg (by omega)] at hQ1 hQ2
        generalize hS4 : zput (zput (zput (zput S 27 (j : Int)) 23 ((zput S 27 (j : Int)).1 27)) 22 6) 28 ((zput (zput (zput S 27 (j : Int)) 23 ((zput S 27 (j : Int)).1 27)) 22 6).1 28 + 1) = S4
        have ag' : zAg FE1 [9] S S4 := by rw [← hS4]; exact zAg_put (by decide) (zAg_put (by decide) (zAg_put (by decide) (zAg_put (by decide) zAg_refl)))
        have ag : zAg FR1 AR0 S S4 := by rw [← hS4]; exact zAg_put (by decide) (zAg_put (by decide) (zAg_put (by decide) (zAg_put (by decide) zAg_refl)))
        have e27 : S4.1 27 = (j : Int) := by rw [← hS4]; rfl
        have e23 : S4.1 23 = (j : Int) := by rw [← hS4]; rfl
        have e28 : S4.1 28 = S.1 28 + 1 := by rw [← hS4]; rfl
        have e30 : S4.1 30 = S.1 30 := by rw [← hS4]; rfl
        have e9 : S4.2.2.1 = S.2.2.1 := by rw [← hS4]; rfl
        have hL4 : Lx S4 t := by rw [← hS4, Lx_put (by decide), Lx_put (by decide), Lx_put (by decide), Lx_put (by decide)]; exact hL
        have hN4 : NW S4 W := by rw [← hS4]; exact ⟨NT_put (by decide) (by decide) (NT_put (by decide) (by decide) (NT_put (by decide) (by decide) (NW_put hN).1)), hN.2⟩
        have hok : ∀ k j' S', sTok t j = .inr (k, j') → RdOk S4 W k j' S' → Q (some none) S' := by
          intro k j' S' e h
          have hin := sTok_in hL.2.1 hjl e
          refine hQ1 k j' S' e ⟨zAg_trans ag (zAg_mono h.1 (by decide) (by decide)), ?_, h.2.1, h.2.2.1, ?_, fun x hx => ?_⟩
          · rw [if_neg (by have := hin.1; omega), h.1.1 28 (by decide), e28]
          · rw [h.2.2.2.1, e30]
          · rw [h.2.2.2.2 x (by rw [e30]; exact hx), e9]
        have her : ∀ (x : Int) p S', sTok t j = .inl (x, p) → RdEr S4 x p S' → Q none S' := fun x p S' e h => hQ2 x p S' e ⟨zAg_trans ag' (zAg_mono h.1 (by decide) (by decide)), h.2.1, h.2.2.1, fun i q => by rw [h.2.2.2 i (by rw [e30]; exact q), e9]⟩
        clear hQ1 hQ2
        have fin : ∀ {x : ZR ZS}, zW x (oV (fun S' => Q (some none) S') (fun S' => Q none S')) → zW (zV x fun S1 => zrV S1) Q := fun h => zW_V h (fun S' q => zW_rV q) (fun S' q => q)
        have h2 := tch_lt hL.2.1 (j + 1)
        have h585 : (sTok t j = if sSign (tch t j) = true then sSigns t j else sOther t j) → zW (ZL (d + 3) 585 [.inl (tch t j)] S4) Q := by
          intro e
          rw [e] at hok her
          refine zl_read_p161 ?_
          unfold zb_read_p161
          refine zW_Ie z_isSign (zW_if (fun z => ?_) (fun z => ?_))
          · rw [bI_0] at z
            rw [if_neg (by rw [z]; exact fun q => by cases q)] at hok her
            exact fin (zW_c (z_readOther hok her hL4 hN4 e23 e27 hjl))
          · rw [bI_1] at z
            rw [if_pos z] at hok her
            have := z_readSigns (d := d) (Q := oV (fun S' => Q (some none) S') (fun S' => Q none S')) hok her hL4 hN4 e23 z (t.length + 1) j (by omega) (Nat.le_refl _) (by omega) (fun q => absurd q (Nat.lt_irrefl _))
            rw [zput_self e27] at this
            exact fin (zW_c this)
        have h357 : (sTok t j = if tch t j = 34 then sString t j else if tch t j = 35 ∧ tch t (j + 1) = 34 then sChar t j else if sSign (tch t j) = true then sSigns t j else sOther t j) → zW (ZL (d + 3) 357 [.inl (tch t j)] S4) Q := by
          intro e
          refine zl_read_p123 ?_
          unfold zb_read_p123
          refine zW_if (fun z => ?_) (fun z => ?_)
          · rw [if_pos z] at e
            exact fin (zW_c (z_readString (x1 := 0) (Or.inl rfl) (fun k j' S' e1 e2 => hok k j' S' (e.trans e1) e2) (fun x p S' e1 e2 => her x p S' (e.trans e1) e2) hL4 hN4 e23 e27 (by show j + 1 ≤ t.length; omega) (by omega) (by omega)))
          · rw [if_neg z] at e
            refine zW_if (fun z1 => zW_Ie (z_behind (j := j + 1) hL4 (by omega) (by omega)) (zW_if (fun z2 => ?_) (fun z2 => ?_))) (fun z1 => ?_)
            · rw [if_pos ⟨z1, z2⟩] at e
              exact fin (zW_c (z_readString (x1 := 1) (Or.inr rfl) (fun k j' S' e1 e2 => hok k j' S' (e.trans e1) e2) (fun x p S' e1 e2 => her x p S' (e.trans e1) e2) hL4 hN4 e23 e27 (by show j + 2 ≤ t.length; omega) (by omega) (by omega)))
            · rw [if_neg (fun q => z2 q.2)] at e
              exact h585 e
            · rw [if_neg (fun q => z1 q.1)] at e
              exact h585 e
        have e : sTok t j = if sLetter (tch t j) = true then sName t j else if tch t j = 39 then sVar t j else if sDigit (tch t j) = true ∨ (tch t j = 126 ∧ sDigit (tch t (j + 1)) = true) then sInt t j else if tch t j = 34 then sString t j else if tch t j = 35 ∧ tch t (j + 1) = 34 then sChar t j else if sSign (tch t j) = true then sSigns t j else sOther t j := rfl
        refine zW_Ie (z_here hL4 e27 (by omega)) (zW_let (zW_Ie z_isLetter (zW_if (fun z => ?_) (fun z => ?_))))
        · rw [bI_0] at z
          rw [if_neg (by rw [z]; exact fun q => by cases q)] at e
          refine zW_if (fun z1 => ?_) (fun z1 => ?_)
          · rw [if_pos z1] at e
            exact fin (zW_c (z_readVariable (fun k j' S' e1 e2 => hok k j' S' (e.trans e1) e2) (fun x p S' e1 e2 => her x p S' (e.trans e1) e2) hL4 hN4 e23 e27 z1))
          · rw [if_neg z1] at e
            refine zW_Ie z_isDigit (zW_if (fun z2 => ?_) (fun z2 => ?_))
            · rw [bI_0] at z2
              refine zW_if (fun z3 => zW_Ie (z_behind (j := j + 1) hL4 (by omega) (by omega)) (zW_Ie z_isDigit (zW_if (fun z4 => ?_) (fun z4 => ?_)))) (fun z3 => ?_)
              · rw [bI_0] at z4
                rw [if_neg (by rw [z2, z4]; exact fun q => q.elim (fun q => by cases q) (fun q => by cases q.2))] at e
                exact h357 e
              · rw [bI_1] at z4
                rw [if_pos (Or.inr ⟨z3, z4⟩)] at e
                exact fin (zW_c (z_readInt (fun k j' S' e1 e2 => hok k j' S' (e.trans e1) e2) (fun x p S' e1 e2 => her x p S' (e.trans e1) e2) hL4 hN4 e23 e27 hjl))
              · rw [if_neg (by rw [z2]; exact fun q => q.elim (fun q => by cases q) (fun q => z3 q.1))] at e
                exact h357 e
            · rw [bI_1] at z2
              rw [if_pos (Or.inl z2)] at e
              exact fin (zW_c (z_readInt (fun k j' S' e1 e2 => hok k j' S' (e.trans e1) e2) (fun x p S' e1 e2 => her x p S' (e.trans e1) e2) hL4 hN4 e23 e27 hjl))
        · rw [bI_1] at z
          rw [if_pos z] at e
          have := z_readName (d := d) (Q := oV (fun S' => Q (some none) S') (fun S' => Q none S')) (a := j) (fun k j' S' e1 e2 => hok k j' S' (e.trans e1) e2) (fun x p S' e1 e2 => her x p S' (e.trans e1) e2) (t.length + 1) j (by omega) hL4 hN4 e23 (Nat.le_refl _) (by omega) rfl
          rw [zput_self e27] at this
          exact fin (zW_c this)
      · have y1 : ¬ S.1 28 + 1 ≤ 1000 := y1
        rw [if_pos (by omega)] at hQ2
        exact zW_thr (hQ2 4 j _ rfl ⟨zAg_put (by decide) (zAg_put (by decide) (zAg_put (by decide) (zAg_put (by decide) (zAg_put (by decide) (zAg_put (by decide) zAg_refl))))), rfl, rfl, fun _ _ => rfl⟩)
end ZRd5
