set_option maxRecDepth 100000
/-! THE REFERENCE READS A TOKEN: names, signs, variables, others -/
section ZRd
variable {d : Nat} {t : List Int} {W : List (List Int)} {S : ZS} {Q : Option (Option ZV) → ZS → Prop}
theorem NT_put {f : Nat} {v : Int} (h1 : f ≠ 12) (h2 : f ≠ 13) (h : NT S W) : NT (zput S f v) W := by
  unfold NT
  rw [zput_1, zput_1, if_neg (fun q => h2 q.symm), if_neg (fun q => h1 q.symm), zput_3]
  exact h
theorem getD_pre {W W' : List (List Int)} (h : W <+: W') {i : Nat} (hi : i < W.length) : W'.getD i [] = W.getD i [] := by
  obtain ⟨V, rfl⟩ := h
  rw [List.getD_eq_getElem?_getD, List.getD_eq_getElem?_getD, List.getElem?_append_left hi]
theorem mem_getD {W : List (List Int)} {l : List Int} (h : l ∈ W) : ∃ i, i < W.length ∧ W.getD i [] = l := by
  obtain ⟨i, hi, e⟩ := List.mem_iff_getElem.mp h
  exact ⟨i, hi, by rw [List.getD_eq_getElem?_getD, List.getElem?_eq_getElem hi]; exact e⟩
theorem nodup_getD {W : List (List Int)} (h : W.Nodup) {i j : Nat} (hi : i < W.length) (hj : j < W.length) (e : W.getD i [] = W.getD j []) : i = j := by
  rw [List.getD_eq_getElem?_getD, List.getD_eq_getElem?_getD, List.getElem?_eq_getElem hi, List.getElem?_eq_getElem hj] at e
  have e : W[i] = W[j] := e
  have h2 := List.pairwise_iff_getElem.mp h
  rcases Nat.lt_trichotomy i j with g | g | g
  · exact absurd e (h2 i j hi hj g)
  · exact g
  · exact absurd e.symm (h2 j i hj hi g)
theorem kept_iff {W : List (List Int)} (hk : sKept <+: W) (hn : W.Nodup) {w : Nat} (hw : w < W.length) : (w : Int) < 44 ↔ W.getD w [] ∈ sKept := by
  have h44 : sKept.length = 44 := by decide
  constructor
  · intro h
    have hw2 : w < sKept.length := by omega
    rw [getD_pre hk hw2, List.getD_eq_getElem?_getD, List.getElem?_eq_getElem hw2]
    exact List.getElem_mem hw2
  · intro h
    obtain ⟨i, hi, e⟩ := mem_getD h
    have := nodup_getD hn (i := w) (j := i) hw (by have := hk.length_le; omega) (by rw [getD_pre hk hi, e])
    omega
/-- what lies between its place and the place at hand is a name, or a word kept back -/
theorem z_named {a e : Nat} (hL : Lx S t) (hN : NW S W) (h23 : S.1 23 = (a : Int)) (h27 : S.1 27 = (e : Int)) (hae : a ≤ e) (he : e ≤ t.length)
    (hok : ∀ k j S', sNamed t a e = .inr (k, j) → RdOk S W k j S' → Q (some none) S') (her : ∀ (x : Int) p S', sNamed t a e = .inl (x, p) → RdEr S x p S' → Q none S') :
    zW (ZL (d + 1) 34 [] S) Q := by
  have hT := hL.2.1.1
  refine zl_named ?_
  unfold zb_named
  unfold sNamed at hok her
  rw [h23, h27]
  refine zW_G (by omega) (zW_let (zW_if (fun z => ?_) (fun z => ?_)))
  · rw [if_neg (by omega)] at hok
    have key : ∀ (w : Nat) (S' : ZS) (W' : List (List Int)), zAg FR0 AR0 S S' → W <+: W' → W'.length ≤ W.length + 1 → off W' W'.length ≤ off W W.length + 30 → NT S' W' → w < W'.length → W'.getD w [] = sl t a (e - a) → S'.1 30 = S.1 30 → S'.1 27 = (e : Int) → S'.2.2.1 9 = S.2.2.1 9 → zW (zp S' 24 (w : Int) fun S4 => if (S4.1 24) < 44 then zp S4 22 0 fun S5 => zrV S5 else zp S4 22 1 fun S6 => zrV S6) Q := by
      intro w S' W' hag hpre g1 g2 hN' hw hwl h30 h27' h9
      have hk := kept_iff (hN.2.1.trans hpre) hN'.2.2.2.2.1 hw
      have h23' : S'.1 23 = (a : Int) := (hag.1 _ (by decide)).trans h23
      have fin : ∀ kd : Nat, kd = (if sl t a (e - a) ∈ sKept then 0 else 1) → Q (some none) (zput (zput S' 24 (w : Int)) 22 (kd : Int)) := by
        intro kd hkd
        refine hok (kd, a, sl t a (e - a), 0) e _ (by rw [hkd]) ⟨zAg_put (by decide) (zAg_put (by decide) hag), ?_, ⟨W', hpre, g1, g2, NT_put (by decide) (by decide) (NT_put (by decide) (by decide) hN'), rfl, ?_, fun _ => ⟨w, hw, rfl, hwl⟩, fun q => ?_, fun q => ?_, fun q => ?_⟩, ?_, fun i hi => ?_⟩
        · exact h27'
        · exact h23'
        · exfalso; dsimp only at q; split at hkd <;> omega
        · exfalso; dsimp only at q; split at hkd <;> omega
        · exfalso; dsimp only at q; split at hkd <;> omega
        · exact le30 (show kd < 4 by split at hkd <;> omega) h30
        · show S'.2.2.1 9 i = _; rw [h9]
      refine zW_p (zW_if (fun y => zW_p (zW_rV ?_)) (fun y => zW_p (zW_rV ?_)))
      · exact fin 0 (by rw [if_pos]; rw [← hwl]; exact hk.mp y)
      · exact fin 1 (by rw [if_neg]; rw [← hwl]; exact fun q => y (hk.mpr q))
    have hnl : ((e : Int) - (a : Int)) = ((e - a : Nat) : Int) := by omega
    rw [hnl]
    refine zW_I (P := fun v S' => zAg FR0 AR0 S S' ∧ ∃ (w : Nat) (W' : List (List Int)), v = (w : Int) ∧ W <+: W' ∧ W'.length ≤ W.length + 1 ∧ off W' W'.length ≤ off W W.length + 30 ∧ NT S' W' ∧ w < W'.length ∧ W'.getD w [] = sl t a (e - a) ∧ S'.1 30 = S.1 30 ∧ S'.1 27 = (e : Int) ∧ S'.2.2.1 9 = S.2.2.1 9) (T := fun _ => False) ?_ ?_ (fun _ q => q.elim)
    · refine zW_c (z_nameAt hL hN.1 (by omega) (by omega) hN.2.2.1 hN.2.2.2 (fun w hw e1 => ?_) (fun hnew S' hag hN' => ?_))
      · exact ⟨zAg_refl, w, W, rfl, List.prefix_rfl, by omega, by omega, hN.1, hw, e1, rfl, h27, rfl⟩
      · refine ⟨zAg_mono hag (by decide) (by decide), W.length, W ++ [sl t a (e - a)], rfl, List.prefix_append _ _, by rw [List.length_append]; exact Nat.le_refl _, ?_, hN', by rw [List.length_append]; exact Nat.lt_succ_self _, getD_app_last, hag.1 _ (by decide), (hag.1 _ (by decide)).trans h27, hag.2.2.1 _ (by decide)⟩
        rw [List.length_append, show W.length + [sl t a (e - a)].length = W.length + 1 from rfl, off_succ (by rw [List.length_append]; exact Nat.lt_succ_self _), off_app (Nat.le_refl _), getD_app_last, sl_len (by omega)]
        omega
    · rintro v S' ⟨hag, w, W', rfl, g1, g2, g3, g4, g5, g6, g7, g8, g9⟩
      exact key w S' W' hag g1 g2 g3 g4 g5 g6 g7 g8 g9
  · rw [if_pos (by omega)] at her
    exact zW_thr (her 1 a _ rfl ⟨zAg_put (by decide) (zAg_put (by decide) zAg_refl), rfl, rfl, fun _ _ => rfl⟩)
theorem RdOk_put {k : Tok} {j : Nat} {v : Int} {S' : ZS} (h : RdOk (zput S 27 v) W k j S') : RdOk S W k j S' := ⟨zAg_trans (zAg_put (by decide) zAg_refl) h.1, h.2.1, h.2.2.1, h.2.2.2.1, h.2.2.2.2⟩
theorem RdEr_put {x : Int} {p : Nat} {v : Int} {S' : ZS} (h : RdEr (zput S 27 v) x p S') : RdEr S x p S' := ⟨zAg_trans (zAg_put (by decide) zAg_refl) h.1, h.2⟩
theorem NW_put {v : Int} (h : NW S W) : NW (zput S 27 v) W := ⟨NT_put (by decide) (by decide) h.1, h.2⟩
theorem Lx_27 {v : Int} (h : Lx S t) : Lx (zput S 27 v) t := by rw [Lx_put (by decide)]; exact h
theorem z_readName {a : Nat} (hQ1 : ∀ k j S', sName t a = .inr (k, j) → RdOk S W k j S' → Q (some none) S') (hQ2 : ∀ (x : Int) p S', sName t a = .inl (x, p) → RdEr S x p S' → Q none S') :
    ∀ (n i : Nat), t.length < n + i → Lx S t → NW S W → S.1 23 = (a : Int) → a ≤ i → i ≤ t.length → sSkip sGoes t i = sSkip sGoes t a → zW (ZL (d + 2) 31 [] (zput S 27 i)) Q := by
  intro n
  induction n with
  | zero => intro i h1 hL hN h23 h2 h3; omega
  | succ n ih =>
    intro i h1 hL hN h23 h2 h3 h4
    have hT := hL.2.1.1
    have hlt := tch_lt hL.2.1 i
    refine zl_readName ?_
    unfold zb_readName
    refine zW_Ie (z_here (i := i) (Lx_27 hL) rfl (by omega)) (zW_Ie z_goesOn (zW_if (fun y => ?_) (fun y => ?_)))
    · rw [bI_0] at y
      have he : sSkip sGoes t a = i := by rw [← h4, sSkip, if_neg (fun q => by rw [y] at q; cases q.2)]
      refine zW_V (P := fun S' => Q (some none) S') (T := fun S' => Q none S') (zW_c (z_named (a := a) (e := i) (Lx_27 hL) (NW_put hN) h23 rfl h2 h3 (fun k j S' e1 e2 => ?_) (fun x p S' e1 e2 => ?_))) (fun S' q => zW_rV q) (fun S' q => q)
      · exact hQ1 k j S' (by unfold sName; rw [he]; exact e1) (RdOk_put e2)
      · exact hQ2 x p S' (by unfold sName; rw [he]; exact e1) (RdEr_put e2)
    · rw [bI_1] at y
      have hb : i < t.length := by
        rw [hlt]
        unfold sGoes sLetter sDigit at y
        simp at y
        omega
      refine zW_G (by show inI ((i : Int) + 1); omega) (zW_p ?_)
      rw [show (zput S 27 i).1 27 + 1 = ((i + 1 : Nat) : Int) by rw [zput_1, if_pos rfl]; omega, zput_put]
      refine ih (i + 1) (by omega) hL hN h23 (by omega) (by omega) ?_
      rw [← h4]
      conv => rhs; rw [sSkip]
      rw [if_pos ⟨hb, y⟩]
theorem sSignEnd_go {i : Nat} (h : i < t.length ∧ sSign (tch t i) = true ∧ ¬ (tch t i = 126 ∧ sDigit (tch t (i + 1)) = true) ∧ ¬ (tch t i = 35 ∧ tch t (i + 1) = 34)) : sSignEnd t i = sSignEnd t (i + 1) := by
  conv => lhs; rw [sSignEnd]
  rw [if_pos h]
theorem z_readSigns {a : Nat} (hQ1 : ∀ k j S', sSigns t a = .inr (k, j) → RdOk S W k j S' → Q (some none) S') (hQ2 : ∀ (x : Int) p S', sSigns t a = .inl (x, p) → RdEr S x p S' → Q none S') (hL : Lx S t) (hN : NW S W) (h23 : S.1 23 = (a : Int)) (hsg : sSign (tch t a) = true) :
    ∀ (n i : Nat), t.length < n + i → a ≤ i → i ≤ t.length → (a < i → sSignEnd t i = sSignEnd t (a + 1)) → zW (ZL (d + 2) 41 [] (zput S 27 i)) Q := by
  intro n
  induction n with
  | zero => intro i h1 h2 h3; omega
  | succ n ih =>
    intro i h1 h2 h3 h4
    have hT := hL.2.1.1
    have hlt := tch_lt hL.2.1 i
    have go : i < t.length → (a < i → sSignEnd t (i + 1) = sSignEnd t i) → zW (ZL (d + 2) 366 [.inl 0] (zput S 27 i)) Q := by
      intro hb hs
      refine zl_readSigns_p65 ?_
      unfold zb_readSigns_p65
      refine zW_let (zW_t rfl (zW_G (by show inI ((i : Int) + 1); omega) (zW_p ?_)))
      rw [show (zput S 27 i).1 27 + 1 = ((i + 1 : Nat) : Int) by rw [zput_1, if_pos rfl]; omega, zput_put]
      refine ih (i + 1) (by omega) (by omega) (by omega) (fun _ => ?_)
      by_cases hai : a = i
      · rw [hai]
      · rw [hs (by omega)]; exact h4 (by omega)
    have stop : a < i → sSignEnd t i = i → ∀ b : Int, zW (zV (zc ZL (d + 2) 34 [] (zput S 27 i)) fun S3 => zrV S3) Q := by
      intro hai hs b
      have he : sSignEnd t (a + 1) = i := by rw [← h4 hai]; exact hs
      refine zW_V (P := fun S' => Q (some none) S') (T := fun S' => Q none S') (zW_c (z_named (a := a) (e := i) (Lx_27 hL) (NW_put hN) h23 rfl h2 h3 (fun k j S' e1 e2 => ?_) (fun x p S' e1 e2 => ?_))) (fun S' q => zW_rV q) (fun S' q => q)
      · exact hQ1 k j S' (by unfold sSigns; rw [he]; exact e1) (RdOk_put e2)
      · exact hQ2 x p S' (by unfold sSigns; rw [he]; exact e1) (RdEr_put e2)
    have stop1 : a < i → sSignEnd t i = i → zW (ZL (d + 2) 366 [.inl 1] (zput S 27 i)) Q := by
      intro hai hs
      refine zl_readSigns_p65 ?_
      unfold zb_readSigns_p65
      exact zW_let (zW_f (by decide) (stop hai hs 0))
    have hsb : sSign (tch t i) = true → i < t.length := by
      intro y
      rw [hlt]
      have := of_decide_eq_true y
      omega
    refine zl_readSigns ?_
    unfold zb_readSigns
    refine zW_Ie (z_here (i := i) (Lx_27 hL) rfl (by omega)) (zW_Ie z_isSign (zW_if (fun y => ?_) (fun y => ?_)))
    · rw [bI_0] at y
      have hai : a < i := by
        by_cases e : a = i
        · rw [e, y] at hsg; cases hsg
        · omega
      exact stop hai (by rw [sSignEnd, if_neg (fun q => by rw [y] at q; cases q.2.1)]) 0
    · rw [bI_1] at y
      have hb := hsb y
      refine zW_if (fun y1 => go hb (fun q => ?_)) (fun y1 => ?_)
      · have : (zput S 27 i).1 27 ≤ (zput S 27 i).1 23 := y1
        rw [zput_1, if_pos rfl, zput_1, if_neg (by decide), h23] at this
        omega
      · have hai : a < i := by
          have : ¬ (zput S 27 i).1 27 ≤ (zput S 27 i).1 23 := y1
          rw [zput_1, if_pos rfl, zput_1, if_neg (by decide), h23] at this
          omega
        have c2 : ¬ (tch t i = 126 ∧ sDigit (tch t (i + 1)) = true) → zW (ZL (d + 2) 367 [] (zput S 27 i)) Q := by
          intro g1
          refine zl_readSigns_p41 ?_
          unfold zb_readSigns_p41
          refine zW_Ie (z_here (i := i) (Lx_27 hL) rfl (by omega)) (zW_if (fun y2 => zW_Ie (z_behind (j := i + 1) (Lx_27 hL) (by rw [zput_1, if_pos rfl]; omega) (by omega)) (zW_if (fun y3 => ?_) (fun y3 => ?_))) (fun y2 => ?_))
          · exact stop1 hai (by rw [sSignEnd, if_neg (fun q => q.2.2.2 ⟨y2, y3⟩)])
          · exact go hb (fun _ => (sSignEnd_go ⟨hb, y, g1, fun q => y3 q.2⟩).symm)
          · exact go hb (fun _ => (sSignEnd_go ⟨hb, y, g1, fun q => y2 q.1⟩).symm)
        refine zW_Ie (z_here (i := i) (Lx_27 hL) rfl (by omega)) (zW_if (fun y2 => zW_Ie (z_behind (j := i + 1) (Lx_27 hL) (by rw [zput_1, if_pos rfl]; omega) (by omega)) (zW_Ie z_isDigit (zW_if (fun y3 => ?_) (fun y3 => ?_)))) (fun y2 => c2 (fun q => y2 q.1)))
        · rw [bI_0] at y3
          exact c2 (fun q => by rw [y3] at q; cases q.2)
        · rw [bI_1] at y3
          exact stop1 hai (by rw [sSignEnd, if_neg (fun q => q.2.2.1 ⟨y2, y3⟩)])
end ZRd
