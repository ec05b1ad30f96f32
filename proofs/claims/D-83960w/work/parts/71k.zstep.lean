set_option maxRecDepth 100000
/-! THE REFERENCE STEPS TO THE NEXT TOKEN -/
section ZStep
variable {d : Nat} {t : List Int} {W W' : List (List Int)} {S S0 S' : ZS} {Q : Option (Option ZV) → ZS → Prop}
/-- the token at hand -/
def TkC (S : ZS) (W : List (List Int)) (k : Tok) : Prop := S.1 17 = (k.1 : Int) ∧ S.1 18 = (k.2.1 : Int) ∧ (k.1 < 3 → ∃ w : Nat, w < W.length ∧ S.1 19 = (w : Int) ∧ W.getD w [] = k.2.2.1) ∧ (k.1 = 3 → S.1 19 = k.2.2.2 ∧ S.1 21 = if k.2.2.1 = [] then 0 else 1) ∧ (k.1 = 4 → 0 ≤ S.1 20 ∧ S.1 20 + 1 + k.2.2.1.length ≤ S.1 30 ∧ SB S (S.1 20) k.2.2.1) ∧ (k.1 = 5 → S.1 19 = k.2.2.2)
def FC0 : List Nat := [17, 18, 19, 20, 21]
def zcur (S : ZS) : ZS := zput (zput (zput (zput (zput S 17 (S.1 22)) 18 (S.1 23)) 19 (S.1 24)) 20 (S.1 25)) 21 (S.1 26)
theorem zcur_ag : zAg FC0 [] S (zcur S) := zAg_put (by decide) (zAg_put (by decide) (zAg_put (by decide) (zAg_put (by decide) (zAg_put (by decide) zAg_refl))))
theorem TkC_cur {k : Tok} (h : TkM S W k) : TkC (zcur S) W k := h
theorem TkM_cur {k : Tok} (h : TkM S W k) : TkM (zcur S) W k := h
theorem TkC_re {c : Tok} {F A : List Nat} (h : TkC S W c) (hag : zAg F A S S') (hF : ∀ f ∈ FC0, f ∉ F) (hW : W <+: W') (h30 : S.1 30 ≤ S'.1 30) (h9 : ∀ i : Int, i < S.1 30 → S'.2.2.1 9 i = S.2.2.1 9 i) : TkC S' W' c := by
  obtain ⟨h1, h2, h3, h4, h5, h6⟩ := h
  have e := fun f hf => hag.1 f (hF f hf)
  have e17 := e 17 (by decide)
  have e18 := e 18 (by decide)
  have e19 := e 19 (by decide)
  have e20 := e 20 (by decide)
  have e21 := e 21 (by decide)
  refine ⟨e17.trans h1, e18.trans h2, fun q => ?_, fun q => ?_, fun q => ?_, fun q => e19.trans (h6 q)⟩
  · obtain ⟨w, q1, q2, q3⟩ := h3 q
    exact ⟨w, Nat.lt_of_lt_of_le q1 hW.length_le, e19.trans q2, by rw [getD_pre hW q1]; exact q3⟩
  · exact ⟨e19.trans (h4 q).1, e21.trans (h4 q).2⟩
  · obtain ⟨q1, q2, q3, q4⟩ := h5 q
    rw [e20]
    exact ⟨q1, by omega, by rw [h9 _ (by omega)]; exact q3, fun k hk => by rw [h9 _ (by omega)]; exact q4 k hk⟩
theorem TkM_re {c : Tok} {F A : List Nat} (h : TkM S W c) (hag : zAg F A S S') (hF : ∀ f ∈ [22, 23, 24, 25, 26], f ∉ F) (hW : W <+: W') (h30 : S.1 30 ≤ S'.1 30) (h9 : ∀ i : Int, i < S.1 30 → S'.2.2.1 9 i = S.2.2.1 9 i) : TkM S' W' c := by
  obtain ⟨h1, h2, h3, h4, h5, h6⟩ := h
  have e := fun f hf => hag.1 f (hF f hf)
  have e22 := e 22 (by decide)
  have e23 := e 23 (by decide)
  have e24 := e 24 (by decide)
  have e25 := e 25 (by decide)
  have e26 := e 26 (by decide)
  refine ⟨e22.trans h1, e23.trans h2, fun q => ?_, fun q => ?_, fun q => ?_, fun q => e24.trans (h6 q)⟩
  · obtain ⟨w, q1, q2, q3⟩ := h3 q
    exact ⟨w, Nat.lt_of_lt_of_le q1 hW.length_le, e24.trans q2, by rw [getD_pre hW q1]; exact q3⟩
  · exact ⟨e24.trans (h4 q).1, e26.trans (h4 q).2⟩
  · obtain ⟨q1, q2, q3, q4⟩ := h5 q
    rw [e25]
    exact ⟨q1, by omega, by rw [h9 _ (by omega)]; exact q3, fun k hk => by rw [h9 _ (by omega)]; exact q4 k hk⟩
def FR2 : List Nat := FC0 ++ FR1
def FE2 : List Nat := FC0 ++ FE1
/-- c is at hand now, k is next -/
def StOk (S : ZS) (W : List (List Int)) (c k : Tok) (j : Nat) (S' : ZS) : Prop := zAg FR2 AR0 S S' ∧ S'.1 28 = S.1 28 + (if k.1 = 6 then 0 else 1) ∧ S'.1 27 = (j : Int) ∧ (∃ W', W <+: W' ∧ W'.length ≤ W.length + 1 ∧ off W' W'.length ≤ off W W.length + 30 ∧ NT S' W' ∧ TkC S' W' c ∧ TkM S' W' k) ∧ S'.1 30 = S.1 30 + kB k ∧ ∀ i : Int, i < S.1 30 → S'.2.2.1 9 i = S.2.2.1 9 i
theorem z_step {n i : Nat} {c : Tok} (hM : TkM S W c) (h6 : c.1 = 6 → Q (some none) (zcur S)) (hok : c.1 ≠ 6 → ∀ k j S', sRead t n i = .inr (k, j) → StOk S W c k j S' → Q (some none) S') (her : c.1 ≠ 6 → ∀ (x : Int) p S', sRead t n i = .inl (x, p) → zAg FE2 [9] S S' → S'.1 31 = x → S'.1 32 = (p : Int) → (∀ i : Int, i < S.1 30 → S'.2.2.1 9 i = S.2.2.1 9 i) → Q none S') (hL : Lx S t) (hN : NW S W) (h27 : S.1 27 = (i : Int)) (h28 : S.1 28 = (n : Int)) (hn : n ≤ 100000) (hi : i ≤ t.length) (h30 : 0 ≤ S.1 30) (hB : S.1 30 + t.length < 183990) :
    zW (ZL (d + 4) 43 [] S) Q := by
  refine zl_step ?_
  unfold zb_step
  refine zW_p (zW_p (zW_p (zW_p (zW_p ?_))))
  have e17 : (zcur S).1 17 = (c.1 : Int) := hM.1
  show zW (if (zcur S).1 17 = 6 then zrV (zcur S) else zV (zc ZL (d + 4) 25 [] (zcur S)) fun S6 => zrV S6) Q
  rw [e17]
  refine zW_if (fun y => zW_rV (h6 (by omega))) (fun y => ?_)
  have hc : c.1 ≠ 6 := by omega
  have ag := zcur_ag (S := S)
  have hN1 : NW (zcur S) W := ⟨NT_ag ag (by decide) (by decide) hN.1, hN.2⟩
  have hL1 : Lx (zcur S) t := Lx_ag ag (by decide) (by decide) hL
  have i30 : (zcur S).1 30 = S.1 30 := rfl
  refine zW_V (P := fun S' => Q (some none) S') (T := fun S' => Q none S') (zW_c (z_read (n := n) (i := i) (fun k j S' e h => ?_) (fun x p S' e h => ?_) hL1 hN1 h27 h28 hn hi (by rw [i30]; exact h30) (by rw [i30]; exact hB))) (fun S' q => zW_rV q) (fun S' q => q)
  · obtain ⟨g1, g2, g3, ⟨W', w1, w2, w3, w4, w5⟩, g5, g6⟩ := h
    refine hok hc k j S' e ⟨zAg_trans (zAg_mono ag (by decide) (by decide)) (zAg_mono g1 (by decide) (by decide)), g2, g3, ⟨W', w1, w2, w3, w4, ?_, w5⟩, g5, g6⟩
    exact TkC_re (TkC_cur hM) g1 (by decide) w1 (by rw [g5]; omega) g6
  · exact her hc x p S' e (zAg_trans (zAg_mono ag (by decide) (by decide)) (zAg_mono h.1 (by decide) (by decide))) h.2.1 h.2.2.1 h.2.2.2
end ZStep
