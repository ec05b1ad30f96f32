set_option maxRecDepth 100000
/-! THE HOUSE'S TYPES: joins whole -/
section HJoin2
variable {B : Nat → Prop} {T : Nat → Nat} {ν : Hmp} {H H1 H' H2 : YS} {C : YC} {d k j n m x y a z t n0 a0 b0 ka kb sa sb all l : Nat} {v w i : Int} {Q : Option (Option ZV) → YS → Prop} {r s : Option Nat} {G G' G0 : TG} {fl fl0 fl' : Nat → Yfl} {sp : Nat → Nat × Nat} {lb lb' : Nat → List Int} {N : TN} {b : Nat} {b' : Yfl} {W W1 : TW} {E E' : List Nat} {adm : Nat → Bool} {K : Nat → Nat → Prop} {Rz : Nat → Prop}
/-- what a known one is: a variable of a text, or of a label -/
theorem HNode_lab (h : HG B T ν H G n m fl sp lb Rz0) (hν : Nok ν) (hx : x < n) (rx : G.1 x = x) (k0 : (fl x).1 ≠ 0) : ((fl x).1 = 5 ∧ ∃ e k, G.2 x = (e, .inl (k + 2))) ∨ ((fl x).1 ≠ 5 ∧ ∃ e lab loose kids, G.2 x = (e, .inr (lab, loose, kids)) ∧ lab % 3 ≠ 1 ∧ ((fl x).1 = 3 → lab % 3 = 0) ∧ ((fl x).1 = 4 → lab = 5) ∧ ((fl x).1 = 2 ∨ (fl x).1 = 1 → lab = 2)) := by
  rcases HNode_kind h hx rx with k | k | k | k | k | k
  · exact absurd k k0
  · obtain ⟨f, p1, p2, p3⟩ := HNode_5 h hx rx k
    exact Or.inl ⟨k, _, _, p3⟩
  · obtain ⟨c, p1, p2, p3, p4⟩ := HNode_3 h hx rx k
    have := hν.2.1 c
    exact Or.inr ⟨by omega, _, _, _, _, p4, by omega, fun _ => this, fun q => by omega, fun q => by omega⟩
  · obtain ⟨p1, p2, p3⟩ := HNode_4 h hx rx k
    exact Or.inr ⟨by omega, _, _, _, _, p3, by decide, fun q => by omega, fun _ => rfl, fun q => by omega⟩
  all_goals
    obtain ⟨p1, p2, p3⟩ := HNode_12 h hx rx (by omega)
    exact Or.inr ⟨by omega, _, _, _, _, p2, by decide, fun q => by omega, fun q => by omega, fun _ => rfl⟩
theorem hk_clash (h : HG B T ν H G n m fl sp lb Rz0) (hν : Nok ν) (hri : tRI G n) (ha : a < n) (hb : b < n) (ra : G.1 a = a) (rb : G.1 b = b) (hne : a ≠ b) (ka : (fl a).1 ≠ 0 ∧ (fl a).1 ≠ 1) (kb : (fl b).1 ≠ 0 ∧ (fl b).1 ≠ 1) (hk : (fl a).1 ≠ (fl b).1 ∨ (fl a).1 = 5) : ∀ w, ¬ (tSol tT G n w ∧ tGen G n w ∧ w a = w b) := by
  rintro w ⟨s1, s2, s3⟩
  have kka := HNode_kind h ha ra
  have kkb := HNode_kind h hb rb
  rcases HNode_lab h hν ha ra ka.1 with ⟨a5, e1, k1, g1⟩ | ⟨a5, e1, lab1, lo1, ks1, g1, x1, x2, x3, x4⟩ <;> rcases HNode_lab h hν hb rb kb.1 with ⟨b5, e2, k2, g2⟩ | ⟨b5, e2, lab2, lo2, ks2, g2, y1, y2, y3, y4⟩
  · exact tS_rig2 ha hb ra rb g1 g2 (fun q => hne (hri a b k1 ha hb ra rb (by rw [g1]) (by rw [g2, q]))) ⟨s2, s3⟩
  · exact tS_rig ha hb ra rb g1 g2 y1 ⟨s1, s2, s3⟩
  · exact tS_rig hb ha rb ra g2 g1 x1 ⟨s1, s2, s3.symm⟩
  · refine tS_clash ha hb ra rb g1 g2 (fun q => ?_) ⟨s1, s3⟩
    subst q
    rcases kka with k | k | k | k | k | k <;> rcases kkb with k' | k' | k' | k' | k' | k' <;> first
      | omega
      | (have := x2 k; have := y3 k'; omega)
      | (have := x2 k; have := y4 (Or.inl k'); omega)
      | (have := x3 k; have := y2 k'; omega)
      | (have := x3 k; have := y4 (Or.inl k'); omega)
      | (have := x4 (Or.inl k); have := y2 k'; omega)
      | (have := x4 (Or.inl k); have := y3 k'; omega)
theorem h_joins (hC : CW C) (hν : Nok ν) (hw0 : tWF G0 n0) (hri : tRI G0 n0) (hx : x < n0) (hy : y < n0) (hJ : JI G0 n0 x y G n ((a0, b0) :: W)) (hab : JAb G a0 b0 a b) (hne : a ≠ b) (h : HM adm B T ν H G n m fl sp lb W E) (hL : hLv K G0 n0 x y fl0 G n fl E) (hB : hBd H T G n m W E) : zW (YL C (d + 6) 79 [zr (T 0), .inl (a : Int), .inl (b : Int)] H) (oI (fun r H' => HStep adm B T ν K G0 n0 x y fl0 H G n m W E a b r H') (fun _ => False)) := by
  obtain ⟨⟨ha, ra⟩, hb, rb⟩ := JI_at hJ hab
  have hM0 := h
  obtain ⟨hT, hG, ⟨w1, w2⟩, ⟨q1, q2, q3⟩, hJE⟩ := h
  obtain ⟨fa, oa, sA, la, ka5⟩ := hG.2.2.1 a ha
  obtain ⟨fb, ob, sB, lb5, kb5⟩ := hG.2.2.1 b hb
  have ix := HG_x hG ha
  have iy := HG_x hG hb
  have hm5 := hG.1.2.2.2
  have hn6 := hG.1.2.2.1
  have ta := hG.2.1.2 a ha
  have tb := hG.2.1.2 b hb
  have ra' := (HG_root hG ha).mp ra
  have rb' := (HG_root hG hb).mp rb
  have hri2 := JI_RI hJ hri
  have ht1 := troots_1 ha ra
  have hB1 := hB
  obtain ⟨bE, bW, -⟩ := hB1
  have kd : ∀ (d : Nat) (y : Nat), y < n → YL C d 57 [zr (T 0), .inl (y : Int)] H = some (some (some (.inl ((fl y).1 : Int))), H) := fun d y hy => by
    obtain ⟨f1, o1, _⟩ := hG.2.2.1 y hy
    rw [h_kind hT (HG_x hG hy), f1, yfb_7 o1]
  -- what is told of one is as good as of the other
  have oisym : ∀ {D tag : Nat}, zW (YL C D tag [zr (T 0), .inl (b : Int), .inl (a : Int)] H) (oI (fun r H' => HStep adm B T ν K G0 n0 x y fl0 H G n m W E b a r H') (fun _ => False)) → zW (YL C D tag [zr (T 0), .inl (b : Int), .inl (a : Int)] H) (oI (fun r H' => HStep adm B T ν K G0 n0 x y fl0 H G n m W E a b r H') (fun _ => False)) := fun q => zW_mono q (fun o S hq => oI_sym hq)
  have fin : ∀ {D tag : Nat} {p q : Int}, zW (YL C D tag [zr (T 0), .inl p, .inl q] H) (oI (fun r H' => HStep adm B T ν K G0 n0 x y fl0 H G n m W E a b r H') (fun _ => False)) → zW (zI (zc (YL C) (D + 1) tag [zr (T 0), .inl p, .inl q] H) fun v4 h3 => yrN 1 v4 h3) (oI (fun r H' => HStep adm B T ν K G0 n0 x y fl0 H G n m W E a b r H') (fun _ => False)) := fun {D tag p q} hq => by
    refine zW_I (T := fun _ => False) (zW_c hq) (fun v S hv => zW_rN ?_ hv) (fun _ q => q.elim)
    rcases hv with ⟨e, _⟩ | ⟨e, _⟩ <;> rw [e] <;> rfl
  refine yl_Types_joins ?_
  unfold yb_Types_joins
  refine zW_f (by omega) ?_
  rw [ycv_T hT]
  refine zW_Ie (zc_s.trans (kd _ a ha)) (zW_if (fun k0 => ?_) (fun k0 => ?_))
  · rw [ycv_T hT]
    exact fin (h_tells (d := d + 2) hw0 hx hy hJ hab hne hM0 hL (by omega) (by omega) hν)
  rw [ycv_T hT]
  refine zW_Ie (zc_s.trans (kd _ b hb)) (zW_if (fun k1 => ?_) (fun k1 => ?_))
  · rw [ycv_T hT]
    exact fin (oisym (h_tells (d := d + 2) hw0 hx hy hJ (JAb_sym hab) hne.symm hM0 hL (by omega) (by omega) hν))
  rw [ycv_T hT]
  refine zW_Ie (zc_s.trans (kd _ a ha)) (zW_if (fun k2 => ?_) (fun k2 => ?_))
  · rw [ycv_T hT]
    exact fin (h_opens (d := d) hC hw0 hx hy hJ hab hne hM0 hL (by omega) (by omega) hB hν)
  rw [ycv_T hT]
  refine zW_Ie (zc_s.trans (kd _ b hb)) (zW_if (fun k3 => ?_) (fun k3 => ?_))
  · rw [ycv_T hT]
    exact fin (oisym (h_opens (d := d) hC hw0 hx hy hJ (JAb_sym hab) hne.symm hM0 hL (by omega) (by omega) hB hν))
  rw [ycv_T hT]
  refine zW_Ie (zc_s.trans (kd _ a ha)) ?_
  rw [ycv_T hT]
  have no : (∀ w, ¬ (tSol tT G n w ∧ tGen G n w ∧ w a = w b)) → zW (yrN 1 0 H) (oI (fun r H' => HStep adm B T ν K G0 n0 x y fl0 H G n m W E a b r H') (fun _ => False)) := fun q => zW_rN rfl (Or.inl ⟨rfl, hAg_refl, q⟩)
  refine zW_Ie (zc_s.trans (kd _ b hb)) (zW_if (fun k4 => ?_) (fun k4 => no (hk_clash hG hν hri2 ha hb ra rb hne (by omega) (by omega) (by omega))))
  by_cases k5 : (fl a).1 = 5
  · -- two variables of a text
    have cl := hk_clash hG hν hri2 ha hb ra rb hne (by omega) (by omega) (Or.inr k5)
    obtain ⟨f, p1, p2, p3⟩ := HNode_5 hG ha ra k5
    obtain ⟨f', p1', p2', p3'⟩ := HNode_5 hG hb rb (by omega)
    rw [ycv_T hT]
    refine zW_Ie (zc_s.trans (h_of hT ix (by omega))) ?_
    rw [ycv_T hT]
    refine zW_Ie (zc_s.trans (h_of hT iy (by omega))) (zW_if (fun q => ?_) (fun q => no cl))
    exfalso
    have e : f = f' := by omega
    subst e
    exact hne (hri2 a b (nX ν f) ha hb ra rb (by rw [p3]) (by rw [p3']))
  have kab : (fl a).1 = 3 ∨ (fl a).1 = 4 ∨ (fl a).1 = 2 := by
    rcases HNode_kind hG ha ra with k | k | k | k | k | k <;> omega
  rw [ycv_T hT]
  refine zW_Ie (zc_s.trans (h_of hT ix (by omega))) ?_
  rw [ycv_T hT]
  refine zW_Ie (zc_s.trans (h_of hT iy (by omega))) ?_
  have hph := hkd_phi ha hb ra rb hne
  rcases kab with k | k | k
  · obtain ⟨c, p1, p2, p3, p4⟩ := HNode_3 hG ha ra k
    obtain ⟨c', p1', p2', p3', p4'⟩ := HNode_3 hG hb rb (by omega)
    refine zW_if (fun q => ?_) (fun q => no (fun w s => tS_clash ha hb ra rb p4 p4' (fun e => q (by have := hν.2.2.1 c c' p2 p2' e; rw [p1, p1', this])) ⟨s.1, s.2.2⟩))
    have e : c = c' := by omega
    subst e
    rw [ycv_T hT]
    refine zW_Ie (zc_s.trans (h_many hT ix sA ka5 (by omega))) ?_
    rw [ycv_T hT]
    refine zW_Ie (zc_s.trans (h_many hT iy sB kb5 (by omega))) (zW_t (by omega) ?_)
    rw [ycv_T hT]
    refine zW_Ie (zc_s.trans (h_many hT ix sA ka5 (by omega))) (zW_let (zW_let ?_))
    have es : (sp b).2 = (sp a).2 := by omega
    rw [es] at p4'
    have go := h_same (C := C) (d := d + 3) (keyA := kI) (keyB := kI) hw0 hx hy hJ hab hne hM0 hL k5 (by omega) (by omega) p4 p4' rfl es (fun i _ => rfl)
    refine yl_Types_joins_p119 ?_
    unfold yb_Types_joins_p119
    refine zW_if (fun _ => ?_) (fun _ => go)
    rw [ycv_T hT]
    exact zW_Ie (zc_s.trans (kd _ a ha)) (zW_f (by omega) go)
  · obtain ⟨p1, p2, p3⟩ := HNode_4 hG ha ra k
    obtain ⟨p1', p2', p3'⟩ := HNode_4 hG hb rb (by omega)
    refine zW_t (by omega) ?_
    rw [ycv_T hT]
    refine zW_Ie (zc_s.trans (h_many hT ix sA ka5 (by omega))) ?_
    rw [ycv_T hT]
    refine zW_Ie (zc_s.trans (h_many hT iy sB kb5 (by omega))) (zW_t (by omega) ?_)
    rw [ycv_T hT]
    refine zW_Ie (zc_s.trans (h_many hT ix sA ka5 (by omega))) (zW_let (zW_let ?_))
    have es : (sp b).2 = (sp a).2 := by omega
    rw [es] at p3'
    have go := h_same (C := C) (d := d + 3) (keyA := kI) (keyB := kI) hw0 hx hy hJ hab hne hM0 hL k5 (by omega) (by omega) p3 p3' rfl es (fun i _ => rfl)
    refine yl_Types_joins_p119 ?_
    unfold yb_Types_joins_p119
    refine zW_if (fun _ => ?_) (fun _ => go)
    rw [ycv_T hT]
    exact zW_Ie (zc_s.trans (kd _ a ha)) (zW_f (by omega) go)
  · obtain ⟨p1, p2, p3, p4⟩ := HNode_12 hG ha ra (Or.inl k)
    obtain ⟨p1', p2', p3', p4'⟩ := HNode_12 hG hb rb (Or.inl (by omega))
    rw [k] at p2
    rw [show (fl b).1 = 2 by omega] at p2'
    have p2 : G.2 a = ((fl a).2.1, .inr (2, false, hkd T H (fun i => lb ((sp a).1 + i)) (sp a).1 (sp a).2)) := p2
    have p2' : G.2 b = ((fl b).2.1, .inr (2, false, hkd T H (fun i => lb ((sp b).1 + i)) (sp b).1 (sp b).2)) := p2'
    -- one has a label that the other one lacks
    have lack : ((∃ i, i < (sp a).2 ∧ ∀ j, j < (sp b).2 → lb ((sp b).1 + j) ≠ lb ((sp a).1 + i)) ∨ ∃ i, i < (sp b).2 ∧ ∀ j, j < (sp a).2 → lb ((sp a).1 + j) ≠ lb ((sp b).1 + i)) → ∀ w, ¬ (tSol tT G n w ∧ tGen G n w ∧ w a = w b) := by
      rintro (⟨i, i1, i2⟩ | ⟨i, i1, i2⟩) w s
      · exact tS_lack ha hb ra rb p2 p2' (hkd_in.mpr ⟨i, i1, rfl, rfl⟩) hJ.1 (fun c mc => by
          obtain ⟨j, j1, j2, _⟩ := hkd_in.mp mc
          exact i2 j j1 j2.symm) ⟨s.1, s.2.2⟩
      · exact tS_lack hb ha rb ra p2' p2 (hkd_in.mpr ⟨i, i1, rfl, rfl⟩) hJ.1 (fun c mc => by
          obtain ⟨j, j1, j2, _⟩ := hkd_in.mp mc
          exact i2 j j1 j2.symm) ⟨s.1, s.2.2.symm⟩
    refine zW_t (by omega) ?_
    rw [ycv_T hT]
    refine zW_Ie (zc_s.trans (h_many hT ix sA ka5 (by omega))) ?_
    rw [ycv_T hT]
    refine zW_Ie (zc_s.trans (h_many hT iy sB kb5 (by omega))) (zW_if (fun q => ?_) (fun q => no (lack (lsrt_len (f := fun i => lb ((sp a).1 + i)) (g := fun i => lb ((sp b).1 + i)) p3 p3' (fun w => q (by omega))))))
    have es : (sp b).2 = (sp a).2 := by omega
    rw [ycv_T hT]
    refine zW_Ie (zc_s.trans (h_many hT ix sA ka5 (by omega))) (zW_let (zW_let ?_))
    rw [es] at p2'
    refine h_labels (d := d + 4) (k := (sp a).2) hC hM0 ha hb k rfl es (fun q => ?_) (fun he => ?_) (sp a).2 0 (by omega) (fun j hj => by omega)
    · obtain ⟨i, i1, i2, i3⟩ := q
      exact Or.inl ⟨rfl, hAg_refl, lack (lsrt_diff (f := fun i => lb ((sp a).1 + i)) (g := fun i => lb ((sp b).1 + i)) p3 p3' ⟨i1, by omega⟩ i2 i3)⟩
    · exact h_same (C := C) (d := d + 3) (keyA := fun i => lb ((sp a).1 + i)) (keyB := fun i => lb ((sp b).1 + i)) hw0 hx hy hJ hab hne hM0 hL k5 (by omega) (by omega) p2 p2' rfl es he
end HJoin2
