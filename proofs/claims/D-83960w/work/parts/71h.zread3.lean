set_option maxRecDepth 100000
/-! THE REFERENCE READS A TOKEN: strings, chars; all; the step to the next token -/
theorem zbyte_255 : ∀ b : Nat, b < 256 → zandI (zbyte b) 255 = b := by decide +kernel
section ZRd3
variable {d : Nat} {t : List Int} {W : List (List Int)} {S : ZS} {Q : Option (Option ZV) → ZS → Prop}
/-- a byte is laid down behind the others -/
def PB (S : ZS) (v : Int) (S' : ZS) : Prop := zAg [27, 30] [9] S S' ∧ S'.1 30 = S.1 30 + 1 ∧ ∀ x : Int, S'.2.2.1 9 x = if x = S.1 30 then zbyte v else S.2.2.1 9 x
theorem z_pushByte {v : Int} (h0 : 0 ≤ S.1 30) (h1 : S.1 30 < 184000) : ZL d 38 [.inl v] S = some (some none, zput (zset S 9 (S.1 30) (zbyte v)) 30 (S.1 30 + 1)) := by
  refine zW_get (zl_pushByte ?_)
  unfold zb_pushByte
  exact zW_st ⟨h0, h1⟩ (zW_G (by show inI (S.1 30 + 1); omega) (zW_p (zW_rV ⟨rfl, rfl⟩)))
theorem PB_push {v : Int} : PB S v (zput (zset S 9 (S.1 30) (zbyte v)) 30 (S.1 30 + 1)) := ⟨zAg_put (by decide) (zAg_set (by decide) zAg_refl), rfl, fun x => by
  show (if 9 = 9 ∧ x = S.1 30 then zbyte v else S.2.2.1 9 x) = _
  by_cases h : x = S.1 30
  · rw [if_pos ⟨rfl, h⟩, if_pos h]
  · rw [if_neg (fun q => h q.2), if_neg h]⟩
theorem PB_27 {v w : Int} {S' : ZS} (h : PB S v S') : PB S v (zput S' 27 w) := ⟨zAg_put (by decide) h.1, h.2.1, h.2.2⟩
theorem PB_27' {v w : Int} {S' : ZS} (h : PB (zput S 27 w) v S') : PB S v S' := ⟨zAg_trans (zAg_put (by decide) zAg_refl) h.1, h.2.1, h.2.2⟩
theorem sDig_le {i : Nat} {v b w : Int} (h : sDig t i v b = some w) : w ≤ 255 := by
  unfold sDig at h
  split at h
  · next q => cases Option.some.inj h; exact q.2
  · cases h
/-- a sign behind \ -/
theorem z_readEscape {i : Nat} (hL : Lx S t) (hi : i ≤ t.length) (h27 : S.1 27 = (i : Int)) (h0 : 0 ≤ S.1 30) (h1 : S.1 30 < 184000)
    (hok : ∀ v j S', sEsc t i = .inr (v, j) → i < j → j ≤ t.length → PB S v S' → S'.1 27 = (j : Int) → Q (some none) S') (her : ∀ p S', sEsc t i = .inl p → RdEr S 1 p S' → Q none S') :
    zW (ZL (d + 1) 39 [] S) Q := by
  have hT := hL.2.1.1
  have hin := tch_in hL.2.1 i
  have hlt := tch_lt hL.2.1 i
  have simple : ∀ v : Int, sEsc t i = .inr (v, i + 1) → 0 ≤ tch t i → zW (ZL (d + 1) 591 [.inl v] S) Q := by
    intro v h hp
    refine zl_readEscape_p53 ?_
    unfold zb_readEscape_p53
    refine zW_Ve (z_pushByte h0 h1) (zW_G ?_ (zW_p (zW_rV (hok v (i + 1) _ h (by omega) (by omega) (PB_27 PB_push) ?_))))
    · show inI (S.1 27 + 1); omega
    · show S.1 27 + 1 = _; omega
  have digits : ¬ (tch t i = 110) → ¬ (tch t i = 116) → ¬ (tch t i = 92 ∨ tch t i = 34) → zW (ZL (d + 1) 365 [.inl 0, .inl 0] S) Q := by
    intro g1 g2 g3
    unfold sEsc at hok her
    rw [if_neg g1, if_neg g2, if_neg g3] at hok her
    have one : ∀ (k i' : Nat) (v by0 : Int) (S1 : ZS), (k = 0 ∧ by0 = 100 ∨ k = 1 ∧ by0 = 10 ∨ k = 2 ∧ by0 = 1) → S1 = zput S 27 i' → i' ≤ t.length → 0 ≤ v → v * by0 * 10 ≤ 255 * 10 → (∀ S', sDig t i' (v * by0 * 10) by0 = none → RdEr S 1 i' S' → Q none S') → (∀ w : Int, sDig t i' (v * by0 * 10) by0 = some (w * by0) → 0 ≤ w → i' < t.length → zW (ZL (d + 1) 365 [.inl w, .inl ((k + 1 : Nat) : Int)] (zput S 27 ((i' + 1 : Nat) : Int))) Q) → zW (ZL (d + 1) 365 [.inl v, .inl (k : Int)] S1) Q := by
      intro k i' v by0 S1 hk hS1 hi' hv hvb e1 e2
      subst hS1
      have hin' := tch_in hL.2.1 i'
      have hlt' := tch_lt hL.2.1 i'
      refine zl_readEscape_p71 ?_
      unfold zb_readEscape_p71
      have bad : ∀ x : Int, sDig t i' (v * by0 * 10) by0 = none → zW (zthrow 1 ((zput S 27 (i' : Int)).1 27) (zput S 27 i')) Q := fun x h => zW_thr (e1 _ h (RdEr_put ⟨zAg_put (by decide) (zAg_put (by decide) zAg_refl), rfl, rfl, fun _ _ => rfl⟩))
      refine zW_t (by omega) (zW_Ie (z_here (i := i') (Lx_27 hL) rfl (by omega)) (zW_Ie z_isDigit (zW_if (fun y => ?_) (fun y => ?_))))
      · rw [bI_0] at y
        refine zl_readEscape_p97 ?_
        unfold zb_readEscape_p97
        refine zW_let (zW_t (by decide) (bad 0 ?_))
        unfold sDig
        rw [if_neg (fun q => by rw [y] at q; cases q.1)]
      · rw [bI_1] at y
        have hdg : 48 ≤ tch t i' ∧ tch t i' ≤ 57 := of_decide_eq_true y
        refine zW_Ie (z_here (i := i') (Lx_27 hL) rfl (by omega)) (zW_G (by omega) ?_)
        have hv25 : v ≤ 255 := by rcases hk with ⟨-, rfl⟩ | ⟨-, rfl⟩ | ⟨-, rfl⟩ <;> omega
        have step : zW (ZL (d + 1) 712 [.inl v, .inl (k : Int), .inl (tch t i' - 48), .inl by0, .inl (10 * v + (tch t i' - 48))] (zput S 27 i')) Q := by
          refine zl_readEscape_p131 ?_
          unfold zb_readEscape_p131
          have hmul : (10 * v + (tch t i' - 48)) * by0 = v * by0 * 10 + by0 * (tch t i' - 48) := by rcases hk with ⟨-, rfl⟩ | ⟨-, rfl⟩ | ⟨-, rfl⟩ <;> omega
          rw [hmul]
          refine zW_G (by rcases hk with ⟨-, rfl⟩ | ⟨-, rfl⟩ | ⟨-, rfl⟩ <;> omega) (zW_if (fun z => ?_) (fun z => bad 0 ?_))
          · refine zW_G (by omega) (zW_let (zW_G (by show inI ((i' : Int) + 1); omega) (zW_p (zW_G (by omega) (zW_let ?_)))))
            rw [show (zput S 27 (i' : Int)).1 27 + 1 = ((i' + 1 : Nat) : Int) by rw [zput_1, if_pos rfl]; omega, zput_put, show (k : Int) + 1 = ((k + 1 : Nat) : Int) by omega]
            refine e2 _ ?_ (by omega) (by omega)
            unfold sDig
            rw [if_pos ⟨y, z⟩, hmul]
          · unfold sDig
            rw [if_neg (fun q => z q.2)]
        refine zl_readEscape_p97 ?_
        unfold zb_readEscape_p97
        refine zW_let (zW_f (by omega) ?_)
        rcases hk with ⟨rfl, rfl⟩ | ⟨rfl, rfl⟩ | ⟨rfl, rfl⟩
        · exact zW_t rfl (zW_G (by omega) step)
        · exact zW_f (by decide) (zW_t rfl (zW_G (by omega) step))
        · exact zW_f (by decide) (zW_f (by decide) (zW_G (by omega) step))
    refine one 0 i 0 100 S (Or.inl ⟨rfl, rfl⟩) (zput_self h27).symm hi (by decide) (by decide) (fun S' h k => ?_) (fun w h hw hb => ?_)
    · rw [show (0 : Int) * 100 * 10 = 0 from rfl] at h
      rw [h] at her
      exact her i S' rfl k
    · rw [show (0 : Int) * 100 * 10 = 0 from rfl] at h
      rw [h] at hok her
      dsimp only at hok her
      have hw2 : w * 100 ≤ 255 := sDig_le h
      refine one 1 (i + 1) w 10 _ (Or.inr (Or.inl ⟨rfl, rfl⟩)) rfl (by omega) hw (by omega) (fun S' h2 k => ?_) (fun w2 h2 hw2' hb2 => ?_)
      · rw [show w * 10 * 10 = w * 100 by omega] at h2
        rw [h2] at her
        exact her (i + 1) S' rfl k
      · rw [show w * 10 * 10 = w * 100 by omega] at h2
        rw [h2] at hok her
        dsimp only at hok her
        have hw3 : w2 * 10 ≤ 255 := sDig_le h2
        refine one 2 (i + 2) w2 1 _ (Or.inr (Or.inr ⟨rfl, rfl⟩)) rfl (by omega) hw2' (by omega) (fun S' h3 k => ?_) (fun w3 h3 hw3' hb3 => ?_)
        · rw [show w2 * 1 * 10 = w2 * 10 by omega] at h3
          rw [h3] at her
          exact her (i + 2) S' rfl k
        · rw [show w2 * 1 * 10 = w2 * 10 by omega] at h3
          rw [h3] at hok her
          dsimp only at hok her
          refine zl_readEscape_p71 ?_
          unfold zb_readEscape_p71
          refine zW_f (by decide) (zW_Ve (z_pushByte (S := zput S 27 ((i + 2 + 1 : Nat) : Int)) h0 h1) (zW_rV ?_))
          rw [show w3 * 1 = w3 by omega] at hok
          exact hok w3 (i + 3) _ rfl (by omega) (by omega) (PB_27' PB_push) rfl
  refine zl_readEscape ?_
  unfold zb_readEscape
  refine zW_Ie (z_here hL h27 (by omega)) (zW_let (zW_if (fun y => ?_) (fun y1 => zW_if (fun y => ?_) (fun y2 => zW_if (fun y => ?_) (fun y3 => zW_if (fun y => ?_) (fun y4 => zW_let (zW_let (digits y1 y2 (by omega)))))))))
  · refine zl_readEscape_p29 ?_
    unfold zb_readEscape_p29
    exact zW_t y (simple 10 (by unfold sEsc; rw [if_pos y]) (by omega))
  · refine zl_readEscape_p29 ?_
    unfold zb_readEscape_p29
    exact zW_f y1 (zW_t y (simple 9 (by unfold sEsc; rw [if_neg y1, if_pos y]) (by omega)))
  · refine zl_readEscape_p29 ?_
    unfold zb_readEscape_p29
    exact zW_f y1 (zW_f y2 (simple _ (by unfold sEsc; rw [if_neg y1, if_neg y2, if_pos (Or.inl y)]) (by omega)))
  · refine zl_readEscape_p29 ?_
    unfold zb_readEscape_p29
    exact zW_f y1 (zW_f y2 (simple _ (by unfold sEsc; rw [if_neg y1, if_neg y2, if_pos (Or.inr y)]) (by omega)))
end ZRd3
