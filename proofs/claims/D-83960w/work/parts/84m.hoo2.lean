set_option maxRecDepth 100000
/-! THE HOUSE'S TYPES: the new row is filled -/
section HOo2
variable {B : Nat → Prop} {T : Nat → Nat} {ν : Hmp} {H H1 H' H2 : YS} {C : YC} {d k j n m x y a z t n0 a0 b0 ka kb sa sb all : Nat} {f g : Nat → List Int} {v w i : Int} {Q : Option (Option ZV) → YS → Prop} {r s : Option Nat} {G G' G0 : TG} {fl fl0 fl' : Nat → Yfl} {sp : Nat → Nat × Nat} {lb lb' : Nat → List Int} {N : TN} {b : Nat} {b' : Yfl} {W : TW} {E E' : List Nat} {adm : Nat → Bool} {K : Nat → Nat → Prop} {Rz : Nat → Prop}
theorem hMs_hW {Hi : YS} {o : Nat → List Int} {W1 : TW} {i : Nat} (h : hMs B T H H1 n m f g ka kb sa sb W Hi k i j o W1) : hWs T Hi (W1 ++ W) ∧ hin T Hi 1217 = ((W1 ++ W).length : Int) := h.1.2
/-- the part is told, both pointers go on (c = 0: one pair more) -/
theorem h_oo_loop (hC : CW C) (hT1 : HtA T H1) (hst : ∀ s bl, StrY B H s bl → StrY B H1 s bl) (hx : a < n) (hy : b < n) (hn : n < 60000) (spa : hsp T H1 a = ((512 * sa + ka : Nat) : Int)) (spb : hsp T H1 b = ((512 * sb + kb : Nat) : Int)) (spn : hsp T H1 n = ((512 * m + all : Nat) : Int)) (la : sa + ka ≤ m) (lb2 : sb + kb ≤ m) (lk : ka < 512 ∧ kb < 512 ∧ all < 512) (lm : m + all ≤ 150000) (hWk : W.length + ka + kb ≤ 150000)
    (Lf : ∀ i, i < ka → (∃ s, hla T H ((sa + i : Nat) : Int) = some s ∧ StrY B H s (f i)) ∧ (f i).length ≤ 200 ∧ f i ≠ []) (Lg : ∀ j, j < kb → (∃ s, hla T H ((sb + j : Nat) : Int) = some s ∧ StrY B H s (g j)) ∧ (g j).length ≤ 200 ∧ g j ≠ []) (Sf : lsrt f ka) (Sg : lsrt g kb) (pa : ∀ i, i < ka → 0 ≤ hpt T H ((sa + i : Nat) : Int) ∧ hpt T H ((sa + i : Nat) : Int) < 60000) (pb : ∀ j, j < kb → 0 ≤ hpt T H ((sb + j : Nat) : Int) ∧ hpt T H ((sb + j : Nat) : Int) < 60000)
    (hend : ∀ Hf o W1, hMs B T H H1 n m f g ka kb sa sb W Hf all ka kb o W1 → zW (zV (ycv (YL C) (d + 5) [(4, 81)] (some (T 0)) [.inl (a : Int), .inl (n : Int)] Hf) fun h11 => zV (ycv (YL C) (d + 5) [(4, 81)] (some (T 0)) [.inl (b : Int), .inl (n : Int)] h11) fun h12 => yrN 1 1 h12) Q) :
    ∀ (r k i j : Nat) (Hi : YS) (o : Nat → List Int) (W1 : TW), k + r = all → hMs B T H H1 n m f g ka kb sa sb W Hi k i j o W1 → k + (ka - i) + cNw f g ka (kb - j) j = all → zW (YL C (d + 5) 782 [zr (T 0), .inl (a : Int), .inl (b : Int), .inl (all : Int), .inl (n : Int), .inl (i : Int), .inl (j : Int), .inl (k : Int)] Hi) Q := by
  intro r
  induction r with
  | zero =>
    intro k i j Hi o W1 hr h hc
    obtain ⟨⟨p1, p2⟩, p3, p4, ⟨p5, p6⟩, ⟨p7, p8⟩, p9, p12, p13⟩ := h
    have ei : i = ka := by omega
    have ej : j = kb := by
      apply Classical.byContradiction
      intro q
      have c0 : cNw f g ka (kb - j) j = 0 := by omega
      rw [show kb - j = (kb - j - 1) + 1 by omega] at c0
      unfold cNw at c0
      by_cases w : ∃ i, i < ka ∧ f i = g j
      · obtain ⟨i', w1, w2⟩ := w
        obtain ⟨q', q1, q2⟩ := p5 i' (by omega)
        have := (p8 q' q1).2 j (Nat.le_refl _) (by omega)
        rw [q2, w2] at this
        exact lcmp_irr this
      · rw [if_neg w] at c0; omega
    subst ei ej
    have ek : k = all := by omega
    subst ek
    refine yl_Types_opens_p169 ?_
    unfold yb_Types_opens_p169
    exact zW_f (by omega) (hend Hi o W1 ⟨⟨p1, p2⟩, p3, p4, ⟨p5, p6⟩, ⟨p7, p8⟩, p9, p12, p13⟩)
  | succ r ih =>
    intro k i j Hi o W1 hr h hc
    have h0 := h
    obtain ⟨⟨p1, p2⟩, p3, p4, ⟨p5, p6⟩, ⟨p7, p8⟩, p9, p12, p13⟩ := h
    have Ti := HtA_ag hT1 p1
    have es : hsp T Hi = hsp T H1 := hAg_a (as := [6, 7, 8]) hT1 (by decide) (by decide) (by decide) p1
    have ia : 0 ≤ (a : Int) ∧ (a : Int) < 60000 := by omega
    have ib : 0 ≤ (b : Int) ∧ (b : Int) < 60000 := by omega
    have it : 0 ≤ (n : Int) ∧ (n : Int) < 60000 := by omega
    have sA : hsp T Hi a = ((512 * sa + ka : Nat) : Int) := by rw [es]; exact spa
    have sB : hsp T Hi b = ((512 * sb + kb : Nat) : Int) := by rw [es]; exact spb
    have sN : hsp T Hi n = ((512 * m + all : Nat) : Int) := by rw [es]; exact spn
    have Str : ∀ s bl, StrY B H s bl → StrY B Hi s bl := fun s bl q => hAg_StrY (as := [6, 7, 8]) hT1 (by decide) p1 (hst s bl q)
    have lA : ∀ i, i < ka → ∃ s, hla T Hi ((sa + i : Nat) : Int) = some s ∧ StrY B Hi s (f i) := fun i hi => by
      obtain ⟨⟨s, q1, q2⟩, _⟩ := Lf i hi
      exact ⟨s, by rw [(p3 _ (by omega)).2]; exact q1, Str s _ q2⟩
    have lB : ∀ j, j < kb → ∃ s, hla T Hi ((sb + j : Nat) : Int) = some s ∧ StrY B Hi s (g j) := fun j hj => by
      obtain ⟨⟨s, q1, q2⟩, _⟩ := Lg j hj
      exact ⟨s, by rw [(p3 _ (by omega)).2]; exact q1, Str s _ q2⟩
    -- a part is put into its place
    have put : ∀ (sl : Nat) (vp : Int) (bl : List Int), StrY B Hi sl bl → ∃ Hj, (∀ d, YL C d 66 [zr (T 0), .inl (n : Int), .inl (k : Int), .inr (.inr (some sl)), .inl vp] Hi = some (some none, Hj)) ∧ hAg T [1217] [6, 7, 8] Hi Hj ∧ (∀ p : Nat, hpt T Hj p = if p = m + k then vp else hpt T Hi p) ∧ (∀ p : Nat, hla T Hj p = if p = m + k then some sl else hla T Hi p) ∧ hWs T Hj (W1 ++ W) ∧ hin T Hj 1217 = ((W1 ++ W).length : Int) := by
      intro sl vp bl q
      refine ⟨_, fun d => h_put Ti it sN (by omega) (by omega) (fun b e => by cases e; exact q.2.1), hAg_setR (by decide) (hAg_set (by decide) hAg_refl), fun p => ?_, fun p => ?_, hWs_a (H := Hi) ?_ p2.1, p2.2⟩
      · show yA (yset Hi (T 6) ((m + k : Nat) : Int) vp) (T 6) p = _
        rw [hset_s]
        by_cases e : p = m + k
        · rw [if_pos e]; exact if_pos (by omega)
        · rw [if_neg e]; exact if_neg (by omega)
      · show (if T 7 = T 7 ∧ (p : Int) = ((m + k : Nat) : Int) then some sl else hla T Hi p) = _
        by_cases e : p = m + k
        · rw [if_pos e, if_pos ⟨rfl, by omega⟩]
        · rw [if_neg e, if_neg (fun w => e (by omega))]
      · show yA (yset Hi (T 6) ((m + k : Nat) : Int) vp) (T 8) = _
        exact hset_a Ti (by decide) (by decide) (by decide)
    -- the first one's label comes, alone
    have goA : ∀ c : Int, c < 0 → i < ka → (∀ j', j ≤ j' → j' < kb → lcmp (f i) (g j') < 0) → zW (YL C (d + 5) 908 [zr (T 0), .inl (a : Int), .inl (b : Int), .inl (all : Int), .inl (n : Int), .inl (i : Int), .inl (j : Int), .inl (k : Int), .inl c] Hi) Q := by
      intro c c0 hi hg
      obtain ⟨s, q1, q2⟩ := lA i hi
      obtain ⟨Hj, u1, u2, u3, u4, u5, u6⟩ := put s (hpt T H ((sa + i : Nat) : Int)) _ q2
      refine yl_Types_opens_p220 ?_
      unfold yb_Types_opens_p220
      refine zW_let (zW_t (by omega) ?_)
      rw [ycv_T Ti]
      refine zW_Qe (zc_s.trans (h_label Ti ia sA (by omega) (by omega))) ?_
      rw [q1]
      refine yl_Types_opens_p249 ?_
      unfold yb_Types_opens_p249
      refine zW_t (by omega) ?_
      rw [ycv_T Ti]
      refine zW_Ie (zc_s.trans (h_raw Ti ia sA (by omega) (by omega))) ?_
      rw [(p3 _ (by omega)).1]
      refine yl_Types_opens_p271 ?_
      unfold yb_Types_opens_p271
      rw [ycv_T Ti]
      refine zW_Ve (zc_s.trans (u1 _)) (zW_f (by omega) ?_)
      refine yl_Types_opens_p297 ?_
      unfold yb_Types_opens_p297
      refine zW_t (by omega) ?_
      refine yl_Types_opens_p309 ?_
      unfold yb_Types_opens_p309
      refine zW_G (by omega) (zW_let (zW_t c0 (zW_G (by omega) (zW_let (zW_G (by omega) (zW_let ?_))))))
      rw [show (i : Int) + 1 = ((i + 1 : Nat) : Int) by omega, show (j : Int) + 0 = (j : Int) by omega, show (k : Int) + 1 = ((k + 1 : Nat) : Int) by omega]
      refine ih (k + 1) (i + 1) j Hj _ W1 (by omega) (hMs_step (bl := f i) hT1 h0 u2 ⟨u5, u6⟩ u3 u4 ⟨hAg_StrY (as := [6, 7, 8]) Ti (by decide) u2 q2, (Lf i hi).2.1, (Lf i hi).2.2⟩ (Or.inr ⟨rfl, hi, rfl⟩) (Or.inl rfl) (Or.inl ⟨rfl, rfl⟩) (fun i' a1 a2 => Sf i i' (by omega) a2) (fun j' a1 a2 => hg j' a1 a2) (Or.inl ⟨rfl, Or.inr rfl, by omega⟩)) (by omega)
    -- the second one's label comes, alone
    have goB : ∀ c : Int, 0 < c → j < kb → (∀ i', i ≤ i' → i' < ka → lcmp (g j) (f i') < 0) → zW (YL C (d + 5) 908 [zr (T 0), .inl (a : Int), .inl (b : Int), .inl (all : Int), .inl (n : Int), .inl (i : Int), .inl (j : Int), .inl (k : Int), .inl c] Hi) Q := by
      intro c c0 hj hf
      obtain ⟨s, q1, q2⟩ := lB j hj
      obtain ⟨Hj, u1, u2, u3, u4, u5, u6⟩ := put s (hpt T H ((sb + j : Nat) : Int)) _ q2
      have cn : cNw f g ka (kb - j) j = 1 + cNw f g ka (kb - (j + 1)) (j + 1) := by
        rw [show kb - j = (kb - (j + 1)) + 1 by omega]
        show @ite Nat (∃ i, i < ka ∧ f i = g j) (Classical.propDecidable _) 0 1 + _ = _
        rw [if_neg]
        rintro ⟨i', w1, w2⟩
        by_cases e : i' < i
        · obtain ⟨q', a1, a2⟩ := p5 i' e
          have := (p8 q' a1).2 j (Nat.le_refl _) hj
          rw [a2, w2] at this
          exact lcmp_irr this
        · have := hf i' (by omega) w1
          rw [w2] at this
          exact lcmp_irr this
      refine yl_Types_opens_p220 ?_
      unfold yb_Types_opens_p220
      refine zW_let (zW_f (by omega) ?_)
      rw [ycv_T Ti]
      refine zW_Qe (zc_s.trans (h_label Ti ib sB (by omega) (by omega))) ?_
      rw [q1]
      refine yl_Types_opens_p249 ?_
      unfold yb_Types_opens_p249
      refine zW_f (by omega) ?_
      rw [ycv_T Ti]
      refine zW_Ie (zc_s.trans (h_raw Ti ib sB (by omega) (by omega))) ?_
      rw [(p3 _ (by omega)).1]
      refine yl_Types_opens_p271 ?_
      unfold yb_Types_opens_p271
      rw [ycv_T Ti]
      refine zW_Ve (zc_s.trans (u1 _)) (zW_f (by omega) ?_)
      refine yl_Types_opens_p297 ?_
      unfold yb_Types_opens_p297
      refine zW_f (by omega) ?_
      refine yl_Types_opens_p309 ?_
      unfold yb_Types_opens_p309
      refine zW_G (by omega) (zW_let (zW_f (by omega) (zW_G (by omega) (zW_let (zW_G (by omega) (zW_let ?_))))))
      rw [show (i : Int) + 0 = (i : Int) by omega, show (j : Int) + 1 = ((j + 1 : Nat) : Int) by omega, show (k : Int) + 1 = ((k + 1 : Nat) : Int) by omega]
      refine ih (k + 1) i (j + 1) Hj _ W1 (by omega) (hMs_step (bl := g j) hT1 h0 u2 ⟨u5, u6⟩ u3 u4 ⟨hAg_StrY (as := [6, 7, 8]) Ti (by decide) u2 q2, (Lg j hj).2.1, (Lg j hj).2.2⟩ (Or.inl rfl) (Or.inr ⟨rfl, hj, rfl⟩) (Or.inr ⟨rfl, rfl⟩) (fun i' a1 a2 => hf i' a1 a2) (fun j' a1 a2 => Sg j j' (by omega) a2) (Or.inl ⟨rfl, Or.inl rfl, by omega⟩)) (by omega)
    -- one label of both
    have goC : i < ka → j < kb → f i = g j → zW (YL C (d + 5) 908 [zr (T 0), .inl (a : Int), .inl (b : Int), .inl (all : Int), .inl (n : Int), .inl (i : Int), .inl (j : Int), .inl (k : Int), .inl 0] Hi) Q := by
      intro hi hj e
      obtain ⟨s, q1, q2⟩ := lA i hi
      obtain ⟨Hj, u1, u2, u3, u4, u5, u6⟩ := put s (hpt T H ((sa + i : Nat) : Int)) _ q2
      have cn : cNw f g ka (kb - j) j = cNw f g ka (kb - (j + 1)) (j + 1) := by
        rw [show kb - j = (kb - (j + 1)) + 1 by omega]
        show @ite Nat (∃ i, i < ka ∧ f i = g j) (Classical.propDecidable _) 0 1 + _ = _
        rw [if_pos ⟨i, hi, e⟩, Nat.zero_add]
      have Tj := HtA_ag Ti u2
      have esj : hsp T Hj = hsp T Hi := hAg_a (as := [6, 7, 8]) Ti (by decide) (by decide) (by decide) u2
      refine yl_Types_opens_p220 ?_
      unfold yb_Types_opens_p220
      refine zW_let (zW_t (by omega) ?_)
      rw [ycv_T Ti]
      refine zW_Qe (zc_s.trans (h_label Ti ia sA (by omega) (by omega))) ?_
      rw [q1]
      refine yl_Types_opens_p249 ?_
      unfold yb_Types_opens_p249
      refine zW_t (by omega) ?_
      rw [ycv_T Ti]
      refine zW_Ie (zc_s.trans (h_raw Ti ia sA (by omega) (by omega))) ?_
      rw [(p3 _ (by omega)).1]
      refine yl_Types_opens_p271 ?_
      unfold yb_Types_opens_p271
      rw [ycv_T Ti]
      refine zW_Ve (zc_s.trans (u1 _)) (zW_t rfl ?_)
      rw [ycv_T Tj]
      refine zW_Ie (zc_s.trans (h_raw Tj ia (by rw [esj]; exact sA) (by omega) (by omega))) ?_
      rw [ycv_T Tj]
      refine zW_Ie (zc_s.trans (h_raw Tj ib (by rw [esj]; exact sB) (by omega) (by omega))) ?_
      have e1 : hpt T Hj ((sa + i : Nat) : Int) = ((hpt T H ((sa + i : Nat) : Int)).toNat : Int) := by
        rw [u3, if_neg (by omega), (p3 _ (by omega)).1]
        exact (Int.toNat_of_nonneg (pa i hi).1).symm
      have e2 : hpt T Hj ((sb + j : Nat) : Int) = ((hpt T H ((sb + j : Nat) : Int)).toNat : Int) := by
        rw [u3, if_neg (by omega), (p3 _ (by omega)).1]
        exact (Int.toNat_of_nonneg (pb j hj).1).symm
      rw [e1, e2, ycv_T Tj]
      have lw : W1.length ≤ i + j := by
        have := p9.2.2
        omega
      obtain ⟨Hp, v1, v2, v3, v4⟩ := h_push2 (C := C) (d := d + 4) (x := (hpt T H ((sa + i : Nat) : Int)).toNat) (y := (hpt T H ((sb + j : Nat) : Int)).toNat) Tj u5 u6 (by rw [List.length_append]; omega) (by have := pa i hi; omega) (by have := pb j hj; omega)
      refine zW_Ve (zc_s.trans v1) ?_
      refine yl_Types_opens_p297 ?_
      unfold yb_Types_opens_p297
      refine zW_t (by decide) ?_
      refine yl_Types_opens_p309 ?_
      unfold yb_Types_opens_p309
      refine zW_G (by omega) (zW_let (zW_f (by decide) (zW_G (by omega) (zW_let (zW_G (by omega) (zW_let ?_))))))
      rw [show (i : Int) + 1 = ((i + 1 : Nat) : Int) by omega, show (j : Int) + 1 = ((j + 1 : Nat) : Int) by omega, show (k : Int) + 1 = ((k + 1 : Nat) : Int) by omega]
      have e6 : hpt T Hp = hpt T Hj := hAg_a (as := [8]) Tj (by decide) (by decide) (by decide) v2
      have e7 : hla T Hp = hla T Hj := hAg_b (as := [8]) (by decide) v2
      have ag : hAg T [1217] [6, 7, 8] Hi Hp := hAg_trans u2 (hAg_mono v2 (by decide) (by decide))
      refine ih (k + 1) (i + 1) (j + 1) Hp _ _ (by omega) (hMs_step (bl := f i) hT1 h0 ag ⟨v3, v4⟩ (by rw [e6]; exact u3) (by rw [e7]; exact u4) ⟨hAg_StrY (as := [6, 7, 8]) Ti (by decide) ag q2, (Lf i hi).2.1, (Lf i hi).2.2⟩ (Or.inr ⟨rfl, hi, rfl⟩) (Or.inr ⟨rfl, hj, e⟩) (Or.inl ⟨rfl, rfl⟩) (fun i' a1 a2 => Sf i i' (by omega) a2) (fun j' a1 a2 => by rw [e]; exact Sg j j' (by omega) a2) (Or.inr ⟨rfl, rfl, rfl⟩)) (by omega)
    refine yl_Types_opens_p169 ?_
    unfold yb_Types_opens_p169
    refine zW_t (by omega) ?_
    rw [ycv_T Ti]
    refine zW_Ie (zc_s.trans (h_many Ti ia sA (by omega) (by omega))) (zW_if (fun q => ?_) (fun q => ?_))
    · have hj : j < kb := by
        apply Classical.byContradiction
        intro w
        rw [show kb - j = 0 by omega] at hc
        unfold cNw at hc
        omega
      exact goB 1 (by decide) hj (fun i' a1 a2 => by omega)
    · rw [ycv_T Ti]
      refine zW_Ie (zc_s.trans (h_many Ti ib sB (by omega) (by omega))) (zW_if (fun q' => ?_) (fun q' => ?_))
      · exact goA (-1) (by decide) (by omega) (fun j' a1 a2 => by omega)
      · have hi : i < ka := by omega
        have hj : j < kb := by omega
        obtain ⟨s1, q1, q2⟩ := lA i hi
        obtain ⟨s2, q3, q4⟩ := lB j hj
        rw [ycv_T Ti]
        refine zW_Qe (zc_s.trans (h_label Ti ia sA (by omega) (by omega))) ?_
        rw [ycv_T Ti]
        refine zW_Qe (zc_s.trans (h_label Ti ib sB (by omega) (by omega))) ?_
        rw [q1, q3]
        refine zW_Ie (zc_s.trans (y_compare (d := d) hC q2 q4 (Lf i hi).2.1 (Lg j hj).2.1 (Lf i hi).2.2 (Lg j hj).2.2)) ?_
        rcases Int.lt_trichotomy (lcmp (f i) (g j)) 0 with c | c | c
        · refine goA _ c hi (fun j' a1 a2 => ?_)
          by_cases e : j' = j
          · rw [e]; exact c
          · exact lcmp_t c (Sg j j' (by omega) a2)
        · rw [c]; exact goC hi hj (lcmp_0.mp c)
        · have c' : lcmp (g j) (f i) < 0 := lcmp_s.mpr c
          refine goB _ c hj (fun i' a1 a2 => ?_)
          by_cases e : i' = i
          · rw [e]; exact c'
          · exact lcmp_t c' (Sf i i' (by omega) a2)
end HOo2
