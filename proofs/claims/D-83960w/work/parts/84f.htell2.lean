set_option maxRecDepth 100000
/-! THE HOUSE'S TYPES: tells; potentials -/
section HTell2
variable {B : Nat → Prop} {T : Nat → Nat} {ν : Hmp} {H H' H2 : YS} {C : YC} {d f k j n m x y a z t n0 a0 b0 : Nat} {fs as fs' as' : List Nat} {v w i : Int} {Q : Option (Option ZV) → YS → Prop} {r s : Option Nat} {G G' G0 : TG} {fl fl0 : Nat → Yfl} {sp : Nat → Nat × Nat} {lb : Nat → List Int} {N : TN} {b : Nat} {b' : Yfl} {W : TW} {E : List Nat} {adm : Nat → Bool} {K : Nat → Nat → Prop}
theorem tw_nn : 0 ≤ tw G z := by
  unfold tw
  split
  · split
    · split <;> omega
    · exact Int.le_refl _
  · exact Int.le_refl _
theorem tw_no (h : G.1 z ≠ z) : tw G z = 0 := by
  unfold tw
  rcases G.2 z with ⟨e, o | ⟨lab, _ | _, kids⟩⟩
  · rfl
  · rfl
  · exact if_neg h
theorem tw_link (hz : z ≠ a) (hb : z ≠ b) (rb : G.1 b = b) : tw (tlink G a b N) z = tw G z := by
  have e2 : (tlink G a b N).2 z = G.2 z := if_neg hb
  have e1 : (tlink G a b N).1 z = z ↔ G.1 z = z := by
    show (if G.1 z = a then b else G.1 z) = z ↔ _
    constructor
    · intro h; split at h
      · exact absurd h.symm hb
      · exact h
    · intro h; rw [h, if_neg hz]
  unfold tw
  rw [e2]
  rcases G.2 z with ⟨e, o | ⟨lab, _ | _, kids⟩⟩
  · rfl
  · rfl
  · by_cases q : G.1 z = z
    · have q' := e1.mpr q
      simp only [q, q', if_true]
    · have q' : ¬ (tlink G a b N).1 z = z := fun h => q (e1.mp h)
      simp only [q, q', if_false]
theorem hY_m : 2 * (m : Int) ≤ hY m G n := by
  unfold hY
  have h1 := isum_sq (n := n) (f := tw G) (fun z => tw_nn)
  have h2 := isum_nn (n := n) (d := tln G) (fun z _ => tln_nn)
  unfold tKN; omega
/-- joining two: a goes, b has some weight by now -/
theorem hY_link {m' : Nat} (ha : a < n) (hb : b < n) (ra : G.1 a = a) (rb : G.1 b = b) (hab : a ≠ b) (h1 : tw (tlink G a b N) b ≤ tw G a + tw G b) (h2 : tln (tlink G a b N) b ≤ tln G a + tln G b) (h3 : ((m' : Int) - m) ≤ tw G a * tw G b + (tln G a + tln G b - tln (tlink G a b N) b)) : hY m' (tlink G a b N) n ≤ hY m G n := by
  have z1 : (tlink G a b N).1 a ≠ a := by
    show (if G.1 a = a then b else G.1 a) ≠ a
    rw [if_pos ra]; exact fun q => hab q.symm
  have za := tw_no z1
  have zn := (tlo_no z1).2
  have e1 := isum_two_eq (f := tw G) (g := tw (tlink G a b N)) ha hb hab (fun z hz zx zy => tw_link zx zy rb)
  have e2 := isum_two_eq (f := fun z => tw G z * tw G z) (g := fun z => tw (tlink G a b N) z * tw (tlink G a b N) z) ha hb hab (fun z hz zx zy => by rw [tw_link zx zy rb])
  have e3 := isum_two_eq (f := tln G) (g := tln (tlink G a b N)) ha hb hab (fun z hz zx zy => (tlo_link zx zy rb).2)
  have s0 : 0 ≤ isum (tw G) n - tw G a - tw G b := by
    have := isum_two (n := n) (x := a) (y := b) (d := tw G) ha hb hab (fun z _ _ _ => tw_nn)
    omega
  have ka : 0 ≤ tw G a := tw_nn
  have kb : 0 ≤ tw G b := tw_nn
  have kc : 0 ≤ tw (tlink G a b N) b := tw_nn
  unfold hY tKN
  rw [za] at e1 e2
  rw [zn] at e3
  generalize isum (tw (tlink G a b N)) n = I1 at e1 ⊢
  generalize isum (fun z => tw (tlink G a b N) z * tw (tlink G a b N) z) n = I2 at e2 ⊢
  generalize isum (tln (tlink G a b N)) n = I3 at e3 ⊢
  generalize isum (tw G) n = J1 at e1 s0 ⊢
  generalize isum (fun z => tw G z * tw G z) n = J2 at e2 ⊢
  generalize isum (tln G) n = J3 at e3 ⊢
  generalize tw (tlink G a b N) b = kk at *
  generalize tw G a = p at *
  generalize tw G b = q at *
  obtain ⟨s, rfl⟩ : ∃ s, J1 = s + p + q := ⟨J1 - p - q, by omega⟩
  have i1 : I1 = s + kk := by omega
  subst i1
  have hs : 0 ≤ s := by omega
  have m1 := Int.mul_nonneg hs (show 0 ≤ p + q - kk by omega)
  have x1 : (s + kk) * (s + kk) = s * s + 2 * (s * kk) + kk * kk := by grind
  have x2 : (s + p + q) * (s + p + q) = s * s + 2 * (s * p) + 2 * (s * q) + p * p + 2 * (p * q) + q * q := by grind
  have x3 : s * (p + q - kk) = s * p + s * q - s * kk := by grind
  rw [x1, x2]
  rw [x3] at m1
  simp only [Int.mul_zero, Int.zero_add, Int.add_zero] at e2
  omega
theorem tln_at (rb : G.1 b = b) : tln G b = match (G.2 b).2 with
    | .inr (_, true, _) => 1
    | _ => 0 := by
  unfold tln
  rcases G.2 b with ⟨e, o | ⟨lab, _ | _, kids⟩⟩
  · rfl
  · rfl
  · exact if_pos rb
theorem tw_at (rb : G.1 b = b) : tw G b = match (G.2 b).2 with
    | .inr (_, true, kids) => (if kids = [] then 1 else (kids.length : Int))
    | _ => 0 := by
  unfold tw
  rcases G.2 b with ⟨e, o | ⟨lab, _ | _, kids⟩⟩
  · rfl
  · rfl
  · exact if_pos rb
theorem tlink_rb (rb : G.1 b = b) (hab : a ≠ b) : (tlink G a b N).1 b = b := by
  show (if G.1 b = a then b else G.1 b) = b
  rw [rb, if_neg (fun q => hab q.symm)]
theorem tlink_2b : (tlink G a b N).2 b = N := if_pos rfl
/-- b stays what it is, but for demands -/
theorem hY_same (ha : a < n) (hb : b < n) (ra : G.1 a = a) (rb : G.1 b = b) (hab : a ≠ b) (hN : N.2 = (G.2 b).2 ∨ ∃ o, N.2 = .inl o) : hY m (tlink G a b N) n ≤ hY m G n ∧ tKN (tlink G a b N) n ≤ tKN G n ∧ hS (tlink G a b N) n ≤ hS G n := by
  have r1 := tlink_rb (N := N) rb hab
  have t1 : tw (tlink G a b N) b ≤ tw G b ∧ tln (tlink G a b N) b ≤ tln G b := by
    rw [tw_at r1, tw_at rb, tln_at r1, tln_at rb, tlink_2b]
    rcases hN with hN | ⟨o, hN⟩
    · rw [hN]; exact ⟨Int.le_refl _, Int.le_refl _⟩
    · rw [hN]
      have h1 := tw_nn (G := G) (z := b)
      have h2 := tln_nn (G := G) (z := b)
      rw [tw_at rb] at h1
      rw [tln_at rb] at h2
      exact ⟨h1, h2⟩
  have n1 := tw_nn (G := G) (z := a)
  have n2 := tln_nn (G := G) (z := a)
  have n3 := tw_nn (G := G) (z := b)
  have n4 := Int.mul_nonneg n1 n3
  refine ⟨hY_link ha hb ra rb hab (by omega) (by omega) (by omega), ?_⟩
  have e3 := isum_two_eq (f := tln G) (g := tln (tlink G a b N)) ha hb hab (fun z hz zx zy => (tlo_link zx zy rb).2)
  have z1 : (tlink G a b N).1 a ≠ a := by
    show (if G.1 a = a then b else G.1 a) ≠ a
    rw [if_pos ra]; exact fun q => hab q.symm
  have zn := (tlo_no z1).2
  have za := tw_no z1
  have e1 := isum_two_eq (f := tw G) (g := tw (tlink G a b N)) ha hb hab (fun z hz zx zy => tw_link zx zy rb)
  unfold tKN hS
  omega
/-- a step that ends with a link -/
theorem HStep_link (hJ : JI G0 n0 x y G n ((a0, b0) :: W)) (hab : JAb G a0 b0 a b) (hne : a ≠ b) (hL : hLv K G0 n0 x y fl0 G n fl E) (hlv : lvl b' = min (lvl (fl a)) (lvl (fl b))) (hf : hJf T H H') (hJ' : JI G0 n0 x y (tlink G a b N) n W) (hM : HM adm B T ν H' (tlink G a b N) n m (fup fl b b') sp lb W (E ++ [b])) (hN : (tkids N).length ≤ (tkids (G.2 a)).length + (tkids (G.2 b)).length) (hN2 : N.2 = (G.2 b).2 ∨ ∃ o, N.2 = .inl o) : HStep adm B T ν K G0 n0 x y fl0 H G n m W E a b 1 H' := by
  obtain ⟨⟨ha, ra⟩, hb, rb⟩ := JI_at hJ hab
  refine Or.inr ⟨rfl, hf, _, _, _, _, _, _, _, _, hJ', hM, hLv_link hJ hab hne hL hlv, ?_, ?_, troots_link ha rb ra hne, (hY_same ha hb ra rb hne hN2).1, ?_, (hY_same (m := m) ha hb ra rb hne hN2).2.2⟩
  · have := tPhi_link (N := N) ha hb ra rb hne
    omega
  · have := troots_link (N := N) ha rb ra hne
    rw [List.length_append, List.length_singleton]
    omega
  · have := (hY_same (m := m) ha hb ra rb hne hN2).2.1
    unfold Jvm.Pilot.CMlHouseLaw_law_r1995_beea5f.hN
    omega
theorem h_tells_no (h : Q (some (some (.inl 0))) H) : zW (YL C d 546 [zr (T 0), .inl (a : Int), .inl (b : Int), .inl 0] H) Q := by
  refine yl_Types_tells_p41 ?_
  unfold yb_Types_tells_p41
  exact zW_let (zW_t rfl (zW_rN rfl h))
/-- the unknown one a becomes b -/
theorem h_tells_go (hw0 : tWF G0 n0) (hx : x < n0) (hy : y < n0) (hJ : JI G0 n0 x y G n ((a0, b0) :: W)) (hab : JAb G a0 b0 a b) (hne : a ≠ b) (h : HM adm B T ν H G n m fl sp lb W E) (hL : hLv K G0 n0 x y fl0 G n fl E) (ka : (fl a).1 = 0) (hE : E.length < 60000) (ho : (fl a).2.2.1 = true → (fl b).1 = 0 ∨ ((fl b).1 = 3 ∧ -5 < hti T H b)) (hν : Nok ν) : zW (YL C (d + 2) 546 [zr (T 0), .inl (a : Int), .inl (b : Int), .inl 1] H) (oI (fun r H' => HStep adm B T ν K G0 n0 x y fl0 H G n m W E a b r H') (fun _ => False)) := by
  obtain ⟨⟨ha, ra⟩, hb, rb⟩ := JI_at hJ hab
  have hm := h
  obtain ⟨hT, hG, ⟨w1, w2⟩, ⟨q1, q2, q3⟩, hJE⟩ := h
  obtain ⟨f1, o1, _⟩ := hG.2.2.1 a ha
  obtain ⟨f2, o2, _⟩ := hG.2.2.1 b hb
  obtain ⟨t1, g1⟩ := HNode_0 hG ha ra ka
  have ix := HG_x hG ha
  have iy := HG_x hG hb
  have mono : ∀ {H'}, hAg T [1216] [1, 3, 5] H H' → hJf T H H' := fun q => hAg_mono q (by decide) (by decide)
  refine yl_Types_tells_p41 ?_
  unfold yb_Types_tells_p41
  refine zW_let (zW_f (by decide) ?_)
  rw [ycv_T hT]
  refine zW_Ie (zc_s.trans (h_kind hT iy)) ?_
  rw [f2, yfb_7 o2]
  refine zW_if (fun k0 => ?_) (fun k0 => ?_)
  · have kb : (fl b).1 = 0 := by omega
    obtain ⟨t2, g2⟩ := HNode_0 hG hb rb kb
    refine zW_hR 1 hT (by decide) (zW_ha hT (by decide) iy (zW_rd 1 hT (by decide) ix ?_))
    rw [show yA H (T 1) (b : Int) = _ from f2, show yA H (T 1) (a : Int) = _ from f1, yfb_oo o2 o1]
    refine zW_hs hT (by decide) iy ?_
    generalize eb : (((fl b).1, (fl b).2.1, ((fl b).2.2.1 || (fl a).2.2.1), (fl b).2.2.2) : Yfl) = bb
    have ob : yfOK bb := by rw [← eb]; exact o2
    generalize e8 : yset H (T 1) (b : Int) (yfb bb : Int) = H8
    have T8 : HtA T H8 := by rw [← e8]; exact hT
    have a8 : hAg T [1216] [1, 3, 5] H H8 := by rw [← e8]; exact hAg_set (by decide) hAg_refl
    have g8 : hfl T H8 = fun z => if z = (b : Int) then (yfb bb : Int) else hfl T H z := by rw [← e8]; exact hset_s
    have t8 : hti T H8 = hti T H := by rw [← e8]; exact hset_a hT (by decide) (by decide) (by decide)
    have s8 : yA H8 (T 5) = yA H (T 5) := by rw [← e8]; exact hset_a hT (by decide) (by decide) (by decide)
    obtain ⟨H', u1, u2, u3, u4, u5, u6⟩ := h_link (C := C) (d := d) (b := fl a) (b' := bb) (t := E.length) T8 (x := a) (y := b) (by omega) (by omega) hne (by rw [g8]; exact (if_neg (by omega)).trans f1) (by rw [g8]; exact if_pos rfl) o1 ob (by rw [← e8]; exact q2) hE
    rw [ycv_T T8]
    refine zW_Ve (zc_s.trans u1) (zW_rN rfl ?_)
    have ag : hAg T [1216] [1, 3, 5] H H' := hAg_trans a8 u2
    have hN : HNode T ν H lb ((fl a).2.1 || (fl b).2.1, .inl (if ((fl b).2.2.1 || (fl a).2.2.1) then 1 else 0)) (ybec (fl a) bb) (sp b).1 (sp b).2 b := by
      refine Or.inl ⟨by rw [← eb]; exact kb, ?_, t2, ?_⟩
      · rcases hG.2.2.2.2.2.1 b hb rb (fun q => q) with ⟨_, h3, _⟩ | ⟨h1, _⟩ | ⟨h1, _⟩ | ⟨h1, _⟩ | ⟨h1, _⟩
        · exact h3
        all_goals rw [kb] at h1; exact absurd h1 (by decide)
      · rw [← eb]
        show _ = ((fl b).2.1 || (fl a).2.1, _)
        rw [Bool.or_comm]; rfl
    have hM' := HM_link hm ha hb ra rb hne ag (fun z _ => by
      rw [u3, g8]
      by_cases q : z = b
      · rw [if_pos (by omega), if_pos q]
      · rw [if_neg (by omega), if_neg q]; exact if_neg (by omega)) (fun z _ => by
      rw [u4, t8]
      by_cases q : z = a
      · rw [if_pos (by omega), if_pos q]
      · rw [if_neg (by omega), if_neg q]) (fun k => by rw [u5, s8]) u6 (ybec_OK o1 ob) hN (by rw [g1, g2])
    refine HStep_link hJ hab hne hL (by rw [← eb]; rfl) (mono ag) ?_ hM' (by show (0 : Nat) ≤ _; omega) (Or.inr ⟨_, rfl⟩)
    exact JI_both hw0 hx hy hJ hab hne g1 g2 (by split <;> omega) (fun q => by split at q <;> omega) (fun _ => ⟨by split <;> omega, by
      cases (fl a).2.2.1 <;> cases (fl b).2.2.1 <;> simp⟩)
  · obtain ⟨H', u1, u2, u3, u4, u5, u6⟩ := h_link (C := C) (d := d) (b := fl a) (b' := fl b) (t := E.length) hT (x := a) (y := b) (by omega) (by omega) hne f1 f2 o1 o2 q2 hE
    rw [ycv_T hT]
    refine zW_Ve (zc_s.trans u1) (zW_rN rfl ?_)
    have nd := HNode_b (e := (fl a).2.1) (l := min (lvl (fl a)) (lvl (fl b))) (hG.2.2.2.2.2.1 b hb rb (fun q => q))
    have hM' := HM_link (b' := ybec (fl a) (fl b)) hm ha hb ra rb hne u2 (fun z _ => by
      rw [u3]
      by_cases q : z = b
      · rw [if_pos (by omega), if_pos q]
      · rw [if_neg (by omega), if_neg q]) (fun z _ => by
      rw [u4]
      by_cases q : z = a
      · rw [if_pos (by omega), if_pos q]
      · rw [if_neg (by omega), if_neg q]) u5 u6 (ybec_OK o1 o2) nd (by
      show ((G.2 b).1 || (fl a).2.1) = _
      rw [g1, Bool.or_comm])
    refine HStep_link hJ hab hne hL rfl (mono u2) ?_ hM' (by show (tkids (G.2 b)).length ≤ _; omega) (Or.inl rfl)
    rw [Bool.or_comm]
    rcases HNode_kind hG hb rb with kb | kb | kb | kb | kb | kb
    · exact absurd (by omega) k0
    · obtain ⟨f, p1, p2, p3⟩ := HNode_5 hG hb rb kb
      have oa : (fl a).2.2.1 = false := by
        cases e : (fl a).2.2.1 with
        | false => rfl
        | true => rcases ho e with q | q <;> omega
      have g1' := g1
      rw [oa] at g1'
      have := JI_both hw0 hx hy hJ hab hne g1' p3 (by simp) (o3 := nX ν f + 2) (fun _ => ⟨rfl, rfl⟩) (fun q => by omega)
      rw [p3]; exact this
    · obtain ⟨c, p1, p2, p3, p4⟩ := HNode_3 hG hb rb kb
      have := JI_tell hw0 hx hy hJ hab g1 p4 (by split <;> omega) (fun q => ?_)
      · rw [p4]; exact this
      · have oa : (fl a).2.2.1 = true := by
          cases e : (fl a).2.2.1 with
          | true => rfl
          | false => rw [e] at q; exact absurd q (by decide)
        have hc : c ≤ 2 := by rcases ho oa with q | q <;> omega
        have hz : nA ν c = 0 := by
          have := hν.2.2.2.1
          rcases (show c = 0 ∨ c = 1 ∨ c = 2 by omega) with rfl | rfl | rfl
          · exact this.1
          · exact this.2.1
          · exact this.2.2.1
        refine ⟨?_, rfl, ?_⟩
        · have := hν.1
          rcases (show c = 0 ∨ c = 1 ∨ c = 2 by omega) with rfl | rfl | rfl
          · exact Or.inl this.1
          · exact Or.inr (Or.inl this.2.1)
          · exact Or.inr (Or.inr this.2.2.1)
        · unfold hkd; rw [p3, hz]; rfl
    · obtain ⟨p1, p2, p3⟩ := HNode_4 hG hb rb kb
      have := JI_tell hw0 hx hy hJ hab g1 p3 (by split <;> omega) (fun q => ?_)
      · rw [p3]; exact this
      · have oa : (fl a).2.2.1 = true := by
          cases e : (fl a).2.2.1 with
          | true => rfl
          | false => rw [e] at q; exact absurd q (by decide)
        rcases ho oa with q | q <;> omega
    all_goals
      obtain ⟨p1, p2, p3⟩ := HNode_12 hG hb rb (by omega)
      have := JI_tell hw0 hx hy hJ hab g1 p2 (by split <;> omega) (fun q => ?_)
      · rw [p2]; exact this
      · have oa : (fl a).2.2.1 = true := by
          cases e : (fl a).2.2.1 with
          | true => rfl
          | false => rw [e] at q; exact absurd q (by decide)
        rcases ho oa with q | q <;> omega
theorem h_tells (hw0 : tWF G0 n0) (hx : x < n0) (hy : y < n0) (hJ : JI G0 n0 x y G n ((a0, b0) :: W)) (hab : JAb G a0 b0 a b) (hne : a ≠ b) (h : HM adm B T ν H G n m fl sp lb W E) (hL : hLv K G0 n0 x y fl0 G n fl E) (ka : (fl a).1 = 0) (hE : E.length < 60000) (hν : Nok ν) : zW (YL C (d + 3) 80 [zr (T 0), .inl (a : Int), .inl (b : Int)] H) (oI (fun r H' => HStep adm B T ν K G0 n0 x y fl0 H G n m W E a b r H') (fun _ => False)) := by
  obtain ⟨⟨ha, ra⟩, hb, rb⟩ := JI_at hJ hab
  have hm := h
  obtain ⟨hT, hG, ⟨w1, w2⟩, ⟨q1, q2, q3⟩, hJE⟩ := h
  obtain ⟨f1, o1, _⟩ := hG.2.2.1 a ha
  obtain ⟨f2, o2, _⟩ := hG.2.2.1 b hb
  obtain ⟨t1, g1⟩ := HNode_0 hG ha ra ka
  have ix := HG_x hG ha
  have iy := HG_x hG hb
  have no : (∀ w, ¬ (tSol tT G n w ∧ tGen G n w ∧ w a = w b)) → zW (YL C (d + 3) 546 [zr (T 0), .inl (a : Int), .inl (b : Int), .inl 0] H) (oI (fun r H' => HStep adm B T ν K G0 n0 x y fl0 H G n m W E a b r H') (fun _ => False)) := fun q => h_tells_no (Or.inl ⟨rfl, hAg_refl, q⟩)
  refine yl_Types_tells ?_
  unfold yb_Types_tells
  rw [ycv_T hT]
  refine zW_Ie (zc_s.trans (h_is hT ix)) ?_
  rw [f1, yfb_16 o1]
  cases oa : (fl a).2.2.1 with
  | false => exact zW_t (by simp [bN]) (h_tells_go (d := d + 1) hw0 hx hy hJ hab hne hm hL ka hE (fun q => by rw [oa] at q; cases q) hν)
  | true =>
    rw [oa] at g1
    have g1 : G.2 a = ((fl a).2.1, .inl 1) := g1
    refine zW_f (by decide) ?_
    rw [ycv_T hT]
    refine zW_Ie (zc_s.trans (h_kind hT iy)) ?_
    rw [f2, yfb_7 o2]
    refine zW_if (fun k0 => h_tells_go (d := d + 1) hw0 hx hy hJ hab hne hm hL ka hE (fun _ => Or.inl (by omega)) hν) (fun k0 => ?_)
    rw [ycv_T hT]
    refine zW_Ie (zc_s.trans (h_kind hT iy)) ?_
    rw [f2, yfb_7 o2]
    refine zW_if (fun k3 => ?_) (fun k3 => no (fun wv => ?_))
    · have kb : (fl b).1 = 3 := by omega
      obtain ⟨c, p1, p2, p3, p4⟩ := HNode_3 hG hb rb kb
      have tb := hG.2.1.2 b hb
      have hn3 := hG.1.2.2
      rw [ycv_T hT]
      refine zW_Ie (zc_s.trans (h_of hT iy (by omega))) ?_
      refine zW_if (fun c2 => h_tells_go (d := d + 1) hw0 hx hy hJ hab hne hm hL ka hE (fun _ => Or.inr ⟨kb, by omega⟩) hν) (fun c2 => no (fun wv q => tS_ord ha hb ra rb g1 p4 (fun q => ?_) ⟨q.1, q.2.2⟩))
      have := hν.1
      have h2 := hν.2.2.2.1.2.2.2
      have inj := hν.2.2.1
      rcases q with q | q | q
      · have := inj c 0 p2 (by omega) (q.trans this.1.symm); omega
      · have := inj c 1 p2 (by omega) (q.trans this.2.1.symm); omega
      · have := inj c 2 p2 (by omega) (q.trans this.2.2.1.symm); omega
    · rcases HNode_kind hG hb rb with kb | kb | kb | kb | kb | kb
      · exact absurd (by omega) k0
      · obtain ⟨f, p1, p2, p3⟩ := HNode_5 hG hb rb kb
        exact fun q => tS_rig1 hb ha rb ra p3 g1 ⟨q.1, q.2.1, q.2.2.symm⟩
      · exact absurd (by omega) k3
      · obtain ⟨p1, p2, p3⟩ := HNode_4 hG hb rb kb
        exact fun q => tS_ord ha hb ra rb g1 p3 (by decide) ⟨q.1, q.2.2⟩
      all_goals
        obtain ⟨p1, p2, p3⟩ := HNode_12 hG hb rb (by omega)
        exact fun q => tS_ord ha hb ra rb g1 p2 (by decide) ⟨q.1, q.2.2⟩
end HTell2
