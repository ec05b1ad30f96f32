set_option maxRecDepth 100000
/-! THE HOUSE'S TYPES: an open row becomes a row -/
section HOpens
variable {B : Nat → Prop} {T : Nat → Nat} {ν : Hmp} {H H' H2 : YS} {C : YC} {d f k j n m x y a z t n0 a0 b0 : Nat} {fs as fs' as' : List Nat} {v w i : Int} {Q : Option (Option ZV) → YS → Prop} {r s : Option Nat} {G G' G0 : TG} {fl fl0 : Nat → Yfl} {sp : Nat → Nat × Nat} {lb : Nat → List Int} {N : TN} {b : Nat} {b' : Yfl} {W : TW} {E : List Nat} {adm : Nat → Bool} {K : Nat → Nat → Prop}
theorem hkd_nodup (h : lsrt (fun i => lb (a + i)) k) : ((hkd T H (fun i => lb (a + i)) a k).map Prod.fst).Nodup := by
  rw [hkd_fst]
  rw [List.nodup_iff_pairwise_ne, List.pairwise_map]
  refine List.Pairwise.imp_of_mem ?_ (List.pairwise_lt_range)
  intro i j hi hj hij q
  have this : lcmp (lb (a + i)) (lb (a + j)) < 0 := h i j hij (List.mem_range.mp hj)
  rw [show lb (a + i) = lb (a + j) from q] at this
  exact lcmp_irr this
/-- labels of an open row a looked for in a row b, from some on -/
theorem h_or (hC : CW C) (hw0 : tWF G0 n0) (hx : x < n0) (hy : y < n0) (hJ : JI G0 n0 x y G n ((a0, b0) :: W)) (hab : JAb G a0 b0 a b) (hne : a ≠ b) (hL : hLv K G0 n0 x y fl0 G n fl E) (ka : (fl a).1 = 1) (kb : (fl b).1 = 2) (hE : E.length < 60000) : ∀ (r i : Nat) (H0 : YS) (W1 : TW), i + r = (sp a).2 → HM adm B T ν H0 G n m fl sp lb (W1 ++ W) E → hAg T [1217] [8] H H0 → (∀ q, q ∈ W1 → ∃ j j', (j < (sp a).2 ∧ j' < (sp b).2) ∧ lb ((sp a).1 + j) = lb ((sp b).1 + j') ∧ q = ((hpt T H0 (((sp a).1 + j : Nat) : Int)).toNat, (hpt T H0 (((sp b).1 + j' : Nat) : Int)).toNat)) → (∀ j, j < i → ∃ j', j' < (sp b).2 ∧ lb ((sp a).1 + j) = lb ((sp b).1 + j') ∧ ((hpt T H0 (((sp a).1 + j : Nat) : Int)).toNat, (hpt T H0 (((sp b).1 + j' : Nat) : Int)).toNat) ∈ W1) → W1.length = i → W.length + (sp a).2 < 150000 → zW (YL C (d + 3) 548 [zr (T 0), .inl (a : Int), .inl (b : Int), .inl (i : Int)] H0) (oI (fun r H' => HStep adm B T ν K G0 n0 x y fl0 H G n m W E a b r H') (fun _ => False)) := by
  obtain ⟨⟨ha, ra⟩, hb, rb⟩ := JI_at hJ hab
  intro r
  induction r with
  | zero =>
    intro i H0 W1 hi h hf hq1 hq2 hl hW
    have hm := h
    obtain ⟨hT, hG, ⟨w1, w2⟩, ⟨q1, q2, q3⟩, hJE⟩ := h
    have ix := HG_x hG ha
    have iy := HG_x hG hb
    obtain ⟨f1, o1, s1, l1, l2⟩ := hG.2.2.1 a ha
    obtain ⟨f2, o2, s2, l3, l4⟩ := hG.2.2.1 b hb
    have hm5 := hG.1.2.2.2
    have hn6 := hG.1.2.2.1
    obtain ⟨p1, ga, p3, p4⟩ := HNode_12 hG ha ra (Or.inr ka)
    obtain ⟨p1', gb, p3', p4'⟩ := HNode_12 hG hb rb (Or.inl kb)
    rw [ka] at ga
    rw [kb] at gb
    have ga : G.2 a = ((fl a).2.1, .inr (2, true, hkd T H0 (fun i => lb ((sp a).1 + i)) (sp a).1 (sp a).2)) := ga
    have gb : G.2 b = ((fl b).2.1, .inr (2, false, hkd T H0 (fun i => lb ((sp b).1 + i)) (sp b).1 (sp b).2)) := gb
    have nda := hG.2.2.2.2.2.1 a ha ra (fun q => q)
    have ndb := hG.2.2.2.2.2.1 b hb rb (fun q => q)
    obtain ⟨H1, u1, u2, u3, u4, u5, u6⟩ := h_link (C := C) (d := d + 1) (b := fl a) (b' := fl b) (t := E.length) hT (x := a) (y := b) (by omega) (by omega) hne f1 f2 o1 o2 q2 hE
    refine yl_Types_opens_p11 ?_
    unfold yb_Types_opens_p11
    rw [ycv_T hT]
    refine zW_Ie (zc_s.trans (h_many hT ix s1 l2 (by omega))) (zW_f (by omega) ?_)
    rw [ycv_T hT]
    refine zW_Ve (zc_s.trans u1) (zW_rN rfl ?_)
    have nd := HNode_b (e := (fl a).2.1) (l := min (lvl (fl a)) (lvl (fl b))) ndb
    have hM1 := HM_link (b' := ybec (fl a) (fl b)) hm ha hb ra rb hne u2 (fun z _ => by
      rw [u3]
      by_cases q : z = b
      · rw [if_pos (by omega), if_pos q]
      · rw [if_neg (by omega), if_neg q]) (fun z _ => by
      rw [u4]
      by_cases q : z = a
      · rw [if_pos (by omega), if_pos q]
      · rw [if_neg (by omega), if_neg q]) u5 u6 (ybec_OK o1 o2) nd (by
      show ((G.2 b).1 || (fl a).2.1) = _
      rw [ga, Bool.or_comm])
    have en : (((G.2 b).1 || (fl a).2.1, (G.2 b).2) : TN) = ((fl a).2.1 || (fl b).2.1, .inr (2, true && false, hkd T H0 (fun i => lb ((sp b).1 + i)) (sp b).1 (sp b).2)) := by
      rw [gb, Bool.or_comm]; rfl
    rw [en] at hM1
    have hJ' := JI_rows hw0 hx hy hJ hab hne ga gb (W1 := W1) (k := hkd T H0 (fun i => lb ((sp b).1 + i)) (sp b).1 (sp b).2) (hkd_nodup p3') (fun l => ?_) (fun l c q => Or.inr q) (fun q => by cases q) (fun _ l ⟨c, hc⟩ => ?_) (fun q hq => ?_) (fun l c1 c2 m1 m2 => ?_)
    · refine Or.inr ⟨rfl, hAg_trans (hAg_mono hf (by decide) (by decide)) (hAg_mono u2 (by decide) (by decide)), _, _, _, _, _, _, _, _, hJ', hM1, hLv_link hJ hab hne hL rfl, ?_, ?_, troots_link ha rb ra hne, (hY_same ha hb ra rb hne (Or.inl (by rw [gb]; rfl))).1, ?_, (hY_same (m := m) (N := ((fl a).2.1 || (fl b).2.1, .inr (2, true && false, hkd T H0 (fun i => lb ((sp b).1 + i)) (sp b).1 (sp b).2))) ha hb ra rb hne (Or.inl (by rw [gb]; rfl))).2.2⟩
      · have := tPhi_link (N := ((fl a).2.1 || (fl b).2.1, .inr (2, true && false, hkd T H0 (fun i => lb ((sp b).1 + i)) (sp b).1 (sp b).2))) ha hb ra rb hne
        rw [ga, gb] at this
        have e1 : (tkids (((fl a).2.1, .inr (2, true, hkd T H0 (fun i => lb ((sp a).1 + i)) (sp a).1 (sp a).2)) : TN)).length = (sp a).2 := hkd_len
        have e2 : (tkids (((fl b).2.1, .inr (2, false, hkd T H0 (fun i => lb ((sp b).1 + i)) (sp b).1 (sp b).2)) : TN)).length = (sp b).2 := hkd_len
        have e3 : (tkids (((fl a).2.1 || (fl b).2.1, .inr (2, true && false, hkd T H0 (fun i => lb ((sp b).1 + i)) (sp b).1 (sp b).2)) : TN)).length = (sp b).2 := hkd_len
        rw [e1, e2, e3] at this
        rw [List.length_append]; omega
      · have := troots_link (N := ((fl a).2.1 || (fl b).2.1, .inr (2, true && false, hkd T H0 (fun i => lb ((sp b).1 + i)) (sp b).1 (sp b).2))) ha rb ra hne
        rw [List.length_append, List.length_singleton]
        omega
      · have := (hY_same (m := m) (N := ((fl a).2.1 || (fl b).2.1, .inr (2, true && false, hkd T H0 (fun i => lb ((sp b).1 + i)) (sp b).1 (sp b).2))) ha hb ra rb hne (Or.inl (by rw [gb]; rfl))).2.1
        unfold Jvm.Pilot.CMlHouseLaw_law_r1995_beea5f.hN
        omega
    · constructor
      · exact fun q => Or.inr q
      · rintro (⟨c, q⟩ | q)
        · obtain ⟨j, hj, rfl, rfl⟩ := hkd_in.mp q
          obtain ⟨j', q1, q2, q3⟩ := hq2 j (by omega)
          exact ⟨_, hkd_in.mpr ⟨j', q1, q2, rfl⟩⟩
        · exact q
    · obtain ⟨j, hj, rfl, rfl⟩ := hkd_in.mp hc
      obtain ⟨j', q1, q2, q3⟩ := hq2 j (by omega)
      exact ⟨_, hkd_in.mpr ⟨j', q1, q2, rfl⟩⟩
    · obtain ⟨j, j', ⟨j1, j2⟩, j3, rfl⟩ := hq1 q hq
      exact ⟨lb ((sp a).1 + j), Or.inl (hkd_in.mpr ⟨j, j1, rfl, rfl⟩), Or.inr (hkd_in.mpr ⟨j', j2, j3, rfl⟩)⟩
    · obtain ⟨j, hj, rfl, rfl⟩ := hkd_in.mp m1
      obtain ⟨j2, hj2, e, rfl⟩ := hkd_in.mp m2
      obtain ⟨j', q1, q2, q3⟩ := hq2 j (by omega)
      have : j' = j2 := lsrt_inj (f := fun i => lb ((sp b).1 + i)) p3' q1 hj2 (q2.symm.trans e)
      subst this
      exact Or.inl q3
  | succ r ih =>
    intro i H0 W1 hi h hf hq1 hq2 hl hW
    have hm := h
    obtain ⟨hT, hG, ⟨w1, w2⟩, ⟨q1, q2, q3⟩, hJE⟩ := h
    have ix := HG_x hG ha
    have iy := HG_x hG hb
    obtain ⟨f1, o1, s1, l1, l2⟩ := hG.2.2.1 a ha
    obtain ⟨f2, o2, s2, l3, l4⟩ := hG.2.2.1 b hb
    have hm5 := hG.1.2.2.2
    have hn6 := hG.1.2.2.1
    obtain ⟨p1, ga, p3, p4⟩ := HNode_12 hG ha ra (Or.inr ka)
    obtain ⟨p1', gb, p3', p4'⟩ := HNode_12 hG hb rb (Or.inl kb)
    rw [kb] at gb
    obtain ⟨⟨pa0, pa1⟩, sA, pa2, pa3, pa4⟩ := hG.2.2.2.2.1 ((sp a).1 + i) (by omega) (fun z hz q => q.elim)
    obtain ⟨v, e1, e2⟩ := h_find (d := d) hC hT hG (fun _ _ q => q) hb pa3
    refine yl_Types_opens_p11 ?_
    unfold yb_Types_opens_p11
    rw [ycv_T hT]
    refine zW_Ie (zc_s.trans (h_many hT ix s1 l2 (by omega))) (zW_t (by omega) ?_)
    rw [ycv_T hT]
    refine zW_Qe (zc_s.trans (h_label hT ix s1 (by omega) (by omega))) ?_
    rw [pa2, ycv_T hT]
    refine zW_Ie (zc_s.trans e1) (zW_let ?_)
    rcases e2 with ⟨rfl, e2⟩ | ⟨j', j1, rfl, j2⟩
    · refine zW_t rfl (zW_rN rfl (Or.inl ⟨rfl, hAg_mono hf (by decide) (by decide), fun wv q => ?_⟩))
      exact tS_lack (l := lb ((sp a).1 + i)) ha hb ra rb ga gb (hkd_in.mpr ⟨i, by omega, rfl, rfl⟩) hJ.1 (fun c hc => by
        obtain ⟨j, hj, e, _⟩ := hkd_in.mp hc
        exact e2 j hj e.symm) ⟨q.1, q.2.2⟩
    · obtain ⟨⟨pb0, pb1⟩, _⟩ := hG.2.2.2.2.1 ((sp b).1 + j') (by omega) (fun z hz q => q.elim)
      refine zW_f (by omega) ?_
      rw [ycv_T hT]
      refine zW_Ie (zc_s.trans (h_raw hT ix s1 (by omega) (by omega))) ?_
      rw [ycv_T hT]
      refine zW_Ie (zc_s.trans (h_raw hT iy s2 (by omega) (by omega))) ?_
      rw [ycv_T hT, show hpt T H0 (((sp a).1 + i : Nat) : Int) = ((hpt T H0 (((sp a).1 + i : Nat) : Int)).toNat : Int) from (Int.toNat_of_nonneg pa0).symm, show hpt T H0 (((sp b).1 + j' : Nat) : Int) = ((hpt T H0 (((sp b).1 + j' : Nat) : Int)).toNat : Int) from (Int.toNat_of_nonneg pb0).symm]
      obtain ⟨H1, u1, u2, u3, u4⟩ := h_push2 (C := C) (d := d + 2) (x := (hpt T H0 (((sp a).1 + i : Nat) : Int)).toNat) (y := (hpt T H0 (((sp b).1 + j' : Nat) : Int)).toNat) hT w1 w2 (by rw [List.length_append]; omega) (by omega) (by omega)
      refine zW_Ve (zc_s.trans u1) (zW_G (by omega) (zW_let ?_))
      have e6 : hpt T H1 = hpt T H0 := hAg_a (as := [8]) hT (by decide) (by decide) (by decide) u2
      rw [show (i : Int) + 1 = ((i + 1 : Nat) : Int) by omega]
      refine ih (i + 1) H1 (((hpt T H0 (((sp a).1 + i : Nat) : Int)).toNat, (hpt T H0 (((sp b).1 + j' : Nat) : Int)).toNat) :: W1) (by omega) (HM_push hm u2 u3 u4) (hAg_trans hf u2) (fun q hq => ?_) (fun j hj => ?_) (by rw [List.length_cons]; omega) hW
      · rw [e6]
        rcases List.mem_cons.mp hq with rfl | hq
        · exact ⟨i, j', ⟨by omega, j1⟩, j2.symm, rfl⟩
        · exact hq1 q hq
      · rw [e6]
        by_cases q : j = i
        · subst q
          exact ⟨j', j1, j2.symm, List.mem_cons_self ..⟩
        · obtain ⟨j3, q1, q2, q3⟩ := hq2 j (by omega)
          exact ⟨j3, q1, q2, List.mem_cons_of_mem _ q3⟩
end HOpens
