set_option maxRecDepth 100000
/-! THE HOUSE'S TYPES: opens, joins -/
section HJoin
variable {B : Nat → Prop} {T : Nat → Nat} {ν : Hmp} {H H1 H' H2 : YS} {C : YC} {d k j n m x y a z t n0 a0 b0 ka kb sa sb all l : Nat} {v w i : Int} {Q : Option (Option ZV) → YS → Prop} {r s : Option Nat} {G G' G0 : TG} {fl fl0 fl' : Nat → Yfl} {sp : Nat → Nat × Nat} {lb lb' : Nat → List Int} {N : TN} {b : Nat} {b' : Yfl} {W W1 : TW} {E E' : List Nat} {adm : Nat → Bool} {K : Nat → Nat → Prop} {Rz : Nat → Prop}
/-- bounds under which a join can go on -/
def hBd (H : YS) (T : Nat → Nat) (G : TG) (n m : Nat) (W : TW) (E : List Nat) : Prop := (E.length : Int) + 2 * troots G n ≤ 59990 ∧ (W.length : Int) + tPhi G n ≤ 149990 ∧ hY m G n ≤ 300000 ∧ hN G n ≤ 60000 ∧ hS G n ≤ 511 ∧ ∃ l : Nat, hin T H 1214 = (l : Int) ∧ l ≤ 1048576
theorem hkd_phi (ha : a < n) (hb : b < n) (ra : G.1 a = a) (rb : G.1 b = b) (hne : a ≠ b) : ((tkids (G.2 a)).length : Int) + (tkids (G.2 b)).length ≤ tPhi G n := by
  have := isum_two (n := n) (x := a) (y := b) (d := fun z => @ite Int (G.1 z = z) (Classical.propDecidable _) ((tkids (G.2 z)).length : Int) 0) ha hb hne (fun z _ _ _ => by
    show (0 : Int) ≤ @ite Int (G.1 z = z) (Classical.propDecidable _) ((tkids (G.2 z)).length : Int) 0
    split <;> omega)
  have e : @ite Int (G.1 a = a) (Classical.propDecidable _) ((tkids (G.2 a)).length : Int) 0 = ((tkids (G.2 a)).length : Int) := if_pos ra
  have e' : @ite Int (G.1 b = b) (Classical.propDecidable _) ((tkids (G.2 b)).length : Int) 0 = ((tkids (G.2 b)).length : Int) := if_pos rb
  have this : @ite Int (G.1 a = a) (Classical.propDecidable _) ((tkids (G.2 a)).length : Int) 0 + @ite Int (G.1 b = b) (Classical.propDecidable _) ((tkids (G.2 b)).length : Int) 0 ≤ tPhi G n := this
  rw [e, e'] at this; exact this
theorem troots_1 (ha : a < n) (ra : G.1 a = a) : 1 ≤ troots G n := by
  have : cnt (fun _ => False) n < troots G n := cnt_lt (x := a) (fun _ _ q => q.elim) ha (fun q => q) ra
  omega
theorem h_oo (hC : CW C) (hw0 : tWF G0 n0) (hx : x < n0) (hy : y < n0) (hJ : JI G0 n0 x y G n ((a0, b0) :: W)) (hab : JAb G a0 b0 a b) (hne : a ≠ b) (h : HM adm B T ν H G n m fl sp lb W E) (hL : hLv K G0 n0 x y fl0 G n fl E) (ka : (fl a).1 = 1) (kb : (fl b).1 = 1) (hB : hBd H T G n m W E) : zW (YL C (d + 5) 549 [zr (T 0), .inl (a : Int), .inl (b : Int), .inl ((sp a).2 : Int), .inl 0] H) (oI (fun r H' => HStep adm B T ν K G0 n0 x y fl0 H G n m W E a b r H') (fun _ => False)) := by
  obtain ⟨⟨ha, ra⟩, hb, rb⟩ := JI_at hJ hab
  have hM0 := h
  obtain ⟨hT, hG, ⟨w1, w2⟩, ⟨q1, q2, q3⟩, hJE⟩ := h
  obtain ⟨bE, bW, bY, bN, bS, l, bl, bl'⟩ := hB
  obtain ⟨fa, oa, sA, la, ka5⟩ := hG.2.2.1 a ha
  obtain ⟨fb, ob, sB, lb5, kb5⟩ := hG.2.2.1 b hb
  obtain ⟨tia, ga, lsa, nea⟩ := HNode_12 hG ha ra (Or.inr ka)
  obtain ⟨tib, gb, lsb, neb⟩ := HNode_12 hG hb rb (Or.inr kb)
  have ix := HG_x hG ha
  have iy := HG_x hG hb
  have hn6 := hG.1.2.2.1
  have hm5 := hG.1.2.2.2
  have hph := hkd_phi ha hb ra rb hne
  have ht1 := troots_1 ha ra
  have lka : (tkids (G.2 a)).length = (sp a).2 := by rw [ga]; exact hkd_len
  have lkb : (tkids (G.2 b)).length = (sp b).2 := by rw [gb]; exact hkd_len
  have cle := cNw_le (f := fun i => lb ((sp a).1 + i)) (g := fun i => lb ((sp b).1 + i)) (ka := (sp a).2) (sp b).2 0
  refine h_oo_count (d := d + 2) hC hT hG ha hb (sp b).2 0 (sp a).2 (by omega) (by omega) ?_
  generalize hall : (sp a).2 + cNw (fun i => lb ((sp a).1 + i)) (fun i => lb ((sp b).1 + i)) (sp a).2 (sp b).2 0 = all
  refine yl_Types_opens_p92 ?_
  unfold yb_Types_opens_p92
  rw [ycv_T hT]
  refine zW_Ie (zc_s.trans (h_many hT iy sB kb5 (by omega))) (zW_f (by omega) ?_)
  -- n places, parts: there is room
  have wle : ∀ (kk ss : Nat) (ff : Nat → List Int), (kk : Int) ≤ (if hkd T H ff ss kk = [] then 1 else ((hkd T H ff ss kk).length : Int)) ∧ (1 : Int) ≤ (if hkd T H ff ss kk = [] then 1 else ((hkd T H ff ss kk).length : Int)) := by
    intro kk ss ff
    have hl := hkd_len (T := T) (H := H) (key := ff) (a := ss) (k := kk)
    by_cases q : hkd T H ff ss kk = []
    · rw [q, List.length_nil] at hl
      rw [if_pos q]; omega
    · rw [if_neg q, hl]
      have : kk ≠ 0 := fun w => q (by rw [w]; rfl)
      omega
  have wa : ((sp a).2 : Int) ≤ tw G a ∧ 1 ≤ tw G a := by
    rw [tw_at ra, ga, ka]; exact wle _ _ _
  have wb : ((sp b).2 : Int) ≤ tw G b ∧ 1 ≤ tw G b := by
    rw [tw_at rb, gb, kb]; exact wle _ _ _
  have sumw : tw G a + tw G b ≤ isum (tw G) n := isum_two ha hb hne (fun z _ _ _ => tw_nn)
  have lna : tln G a = 1 := by rw [tln_at ra, ga, ka]; rfl
  have lnb : tln G b = 1 := by rw [tln_at rb, gb, kb]; rfl
  have sumn : tln G a + tln G b ≤ isum (tln G) n := isum_two ha hb hne (fun z _ _ _ => tln_nn)
  have hall5 : all < 512 := by
    have : hS G n = isum (tw G) n := rfl
    omega
  have hn60 : n < 60000 := by
    have : hN G n = n + isum (tln G) n := rfl
    omega
  have hm15 : m + all ≤ 150000 := by
    -- by what the joined row would be
    have e : hY m G n = 2 * m + (isum (tw G) n * isum (tw G) n - isum (fun z => tw G z * tw G z) n) + 2 * isum (tln G) n := rfl
    have sq := isum_two (n := n) (x := a) (y := b) (d := fun z => tw G z * tw G z) ha hb hne
    have key : 2 * (tw G a * tw G b) ≤ isum (tw G) n * isum (tw G) n - isum (fun z => tw G z * tw G z) n := by
      have h1 : ∀ (N : Nat) (f : Nat → Int), (∀ z, 0 ≤ f z) → ∀ p q, p < N → q < N → p ≠ q → 2 * (f p * f q) + isum (fun z => f z * f z) N ≤ isum f N * isum f N := by
        intro N f hf
        induction N with
        | zero => intro p q hp; omega
        | succ N ih =>
          intro p q hp hq hpq
          simp only [isum]
          have hs := isum_nn (n := N) (d := f) (fun z _ => hf z)
          have hN := hf N
          have sqle := isum_sq (n := N) (f := f) hf
          have ex : (isum f N + f N) * (isum f N + f N) = isum f N * isum f N + 2 * (isum f N * f N) + f N * f N := by grind
          have pos := Int.mul_nonneg hs hN
          rw [ex]
          by_cases e1 : p = N
          · have q' : q < N := by omega
            have := isum_one (n := N) (x := q) (d := f) q' (fun z _ _ => hf z)
            have m1 := Int.mul_le_mul_of_nonneg_right this hN
            rw [e1, Int.mul_comm (f N) (f q)]
            omega
          · by_cases e2 : q = N
            · have p' : p < N := by omega
              have := isum_one (n := N) (x := p) (d := f) p' (fun z _ _ => hf z)
              have m1 := Int.mul_le_mul_of_nonneg_right this hN
              rw [e2]
              omega
            · have := ih p q (by omega) (by omega) hpq
              omega
      have := h1 n (tw G) (fun z => tw_nn) a b ha hb hne
      omega
    have m1 := Int.mul_nonneg (show 0 ≤ tw G a - 1 by omega) (show 0 ≤ tw G b - 1 by omega)
    have ex : (tw G a - 1) * (tw G b - 1) = tw G a * tw G b - tw G a - tw G b + 1 := by grind
    rw [ex] at m1
    omega
  obtain ⟨H0, u1, u2, u3, u4, u5, u6, u7, u8⟩ := h_node (C := C) (d := d + 4) (kd := 1) (wh := -1) (k := all) hT hG.1.1 hn60 hG.1.2.1 (by omega) hall5 bl bl' (by decide) (by decide)
  rw [ycv_T hT]
  refine zW_Ie (zc_s.trans u1) (zW_let ?_)
  have T0 := HtA_ag hT u2
  have fa0 : hfl T H0 a = (yfb (fl a) : Int) := by rw [u3, if_neg (by omega)]; exact fa
  have fb0 : hfl T H0 b = (yfb (fl b) : Int) := by rw [u3, if_neg (by omega)]; exact fb
  rw [ycv_T T0]
  refine zW_Ie (zc_s.trans (h_level T0 ix)) ?_
  rw [fa0, yfb_l oa, ycv_T T0]
  refine zW_Ie (zc_s.trans (h_level T0 iy)) ?_
  rw [fb0, yfb_l ob]
  refine zW_Ie (zc_s.trans y_min) ?_
  have em : (if ((fl a).2.2.2 : Int) ≤ ((fl b).2.2.2 : Int) then ((fl a).2.2.2 : Int) else ((fl b).2.2.2 : Int)) = ((min (lvl (fl a)) (lvl (fl b)) : Nat) : Int) := by
    show (if (lvl (fl a) : Int) ≤ (lvl (fl b) : Int) then (lvl (fl a) : Int) else (lvl (fl b) : Int)) = _
    split <;> omega
  rw [em, ycv_T T0]
  have lmn : min (lvl (fl a)) (lvl (fl b)) ≤ 1048576 := by
    have : lvl (fl a) ≤ 1048576 := oa.2
    omega
  refine zW_Ve (zc_s.trans (h_levelTo T0 (y := (n : Int)) (by omega))) ?_
  rw [u3, if_pos rfl, yfb_to (b := (1, false, false, l)) ⟨(by decide : (1 : Nat) < 8), bl'⟩ lmn]
  generalize hH1 : yset H0 (T 1) (n : Int) (yfb (1, false, false, min (lvl (fl a)) (lvl (fl b))) : Int) = H1
  have ag01 : hAg T [1211, 1212] [1, 2, 3, 4] H0 H1 := by rw [← hH1]; exact hAg_set (by decide) hAg_refl
  have ag1 : hAg T [1211, 1212] [1, 2, 3, 4] H H1 := hAg_trans u2 ag01
  have T1 := HtA_ag hT ag1
  have f1 : ∀ z : Int, hfl T H1 z = if z = (n : Int) then (yfb (1, false, false, min (lvl (fl a)) (lvl (fl b))) : Int) else hfl T H z := fun z => by
    rw [← hH1]
    show yA (yset H0 (T 1) _ _) (T 1) z = _
    rw [hset_s]
    by_cases q : z = (n : Int)
    · rw [if_pos q]; exact if_pos q
    · rw [if_neg q]; exact (if_neg q).trans ((u3 z).trans (if_neg q))
  have s1 : ∀ z : Int, hsp T H1 z = if z = (n : Int) then ((512 * m + all : Nat) : Int) else hsp T H z := fun z => by
    rw [← u4 z, ← hH1]
    exact congrFun (hset_a T0 (by decide) (by decide) (by decide)) z
  have t1 : ∀ z : Int, hti T H1 z = if z = (n : Int) then -1 else hti T H z := fun z => by
    have := u5 z
    rw [show (-2 : Int) - -1 = -1 by decide] at this
    rw [← this, ← hH1]
    exact congrFun (hset_a T0 (by decide) (by decide) (by decide)) z
  have n1 : hin T H1 1211 = (n : Int) + 1 := by rw [← hH1]; exact u7
  have m1 : hin T H1 1212 = ((m + all : Nat) : Int) := by rw [← hH1]; exact u8
  refine zW_let (zW_let (zW_let ?_))
  have lf : ∀ i, i < (sp a).2 → (∃ s, hla T H (((sp a).1 + i : Nat) : Int) = some s ∧ StrY B H s (lb ((sp a).1 + i))) ∧ (lb ((sp a).1 + i)).length ≤ 200 ∧ lb ((sp a).1 + i) ≠ [] := fun i hi => by
    obtain ⟨_, s, p1, p2, p3⟩ := hG.2.2.2.2.1 ((sp a).1 + i) (by omega) (fun z hz q => q.elim)
    exact ⟨⟨s, p1, p2⟩, p3, nea i hi⟩
  have lg : ∀ i, i < (sp b).2 → (∃ s, hla T H (((sp b).1 + i : Nat) : Int) = some s ∧ StrY B H s (lb ((sp b).1 + i))) ∧ (lb ((sp b).1 + i)).length ≤ 200 ∧ lb ((sp b).1 + i) ≠ [] := fun i hi => by
    obtain ⟨_, s, p1, p2, p3⟩ := hG.2.2.2.2.1 ((sp b).1 + i) (by omega) (fun z hz q => q.elim)
    exact ⟨⟨s, p1, p2⟩, p3, neb i hi⟩
  refine h_oo_loop (d := d) (f := fun i => lb ((sp a).1 + i)) (g := fun i => lb ((sp b).1 + i)) (ka := (sp a).2) (kb := (sp b).2) (sa := (sp a).1) (sb := (sp b).1) (W := W) (H := H) (m := m) hC T1 (fun s bl q => hAg_StrY (as := [1, 2, 3, 4]) hT (by decide) ag1 q) ha hb hn60 (by rw [s1, if_neg (by omega)]; exact sA) (by rw [s1, if_neg (by omega)]; exact sB) (by rw [s1, if_pos rfl]) la lb5 ⟨ka5, kb5, hall5⟩ hm15 (by omega) lf lg lsa lsb (fun i hi => ?_) (fun i hi => ?_) (fun Hf o W1 hm => ?_) all 0 0 0 H1 (fun _ => []) [] (by omega) ⟨⟨hAg_refl, hWs_a (hAg_a (as := [1, 2, 3, 4]) hT (by decide) (by decide) (by decide) ag1) w1, by rw [hAg_f (fs := [1211, 1212]) (by decide) ag1]; exact w2⟩, fun p hp => ?_, fun q hq => by omega, ⟨fun _ q => by omega, fun _ q => by omega⟩, ⟨fun _ _ _ q => by omega, fun _ q => by omega⟩, ⟨fun _ _ q => by omega, fun _ q => absurd q List.not_mem_nil, rfl⟩, by omega, by omega⟩ (by rw [Nat.sub_zero, Nat.sub_zero]; omega)
  · have := (hG.2.2.2.2.1 ((sp a).1 + i) (by omega) (fun z hz q => q.elim)).1
    omega
  · have := (hG.2.2.2.2.1 ((sp b).1 + i) (by omega) (fun z hz q => q.elim)).1
    omega
  · exact h_oo_end (d := d + 2) (l := l) hw0 hx hy hJ hab hne hM0 hL ka kb (by omega) bY bN bS bl' ag1 f1 s1 t1 n1 m1 (by omega) hm
  · have e6 : hpt T H1 = hpt T H := hAg_a (as := [1, 2, 3, 4]) hT (by decide) (by decide) (by decide) ag1
    have e7 : hla T H1 = hla T H := hAg_b (as := [1, 2, 3, 4]) (by decide) ag1
    rw [e6, e7]; exact ⟨rfl, rfl⟩
theorem HStep_sym {H' : YS} {v : Int} (h : HStep adm B T ν K G0 n0 x y fl0 H G n m W E b a v H') : HStep adm B T ν K G0 n0 x y fl0 H G n m W E a b v H' := h.imp (fun q => ⟨q.1, q.2.1, fun w s => q.2.2 w ⟨s.1, s.2.1, s.2.2.symm⟩⟩) (fun q => q)
theorem JAb_sym (h : JAb G a0 b0 a b) : JAb G a0 b0 b a := h.elim (fun q => Or.inr ⟨q.2, q.1⟩) (fun q => Or.inl ⟨q.2, q.1⟩)
theorem oI_sym {o : Option (Option ZV)} {H' : YS} (h : oI (fun r H' => HStep adm B T ν K G0 n0 x y fl0 H G n m W E b a r H') (fun _ => False) o H') : oI (fun r H' => HStep adm B T ν K G0 n0 x y fl0 H G n m W E a b r H') (fun _ => False) o H' := by
  rcases o with _ | _ | v | v | v
  · exact h
  · exact h
  · exact HStep_sym h
  · exact h
  · exact h
/-- an open row a and something that is known -/
theorem h_opens (hC : CW C) (hw0 : tWF G0 n0) (hx : x < n0) (hy : y < n0) (hJ : JI G0 n0 x y G n ((a0, b0) :: W)) (hab : JAb G a0 b0 a b) (hne : a ≠ b) (h : HM adm B T ν H G n m fl sp lb W E) (hL : hLv K G0 n0 x y fl0 G n fl E) (ka : (fl a).1 = 1) (kb : (fl b).1 ≠ 0) (hB : hBd H T G n m W E) (hν : Nok ν) : zW (YL C (d + 5) 84 [zr (T 0), .inl (a : Int), .inl (b : Int)] H) (oI (fun r H' => HStep adm B T ν K G0 n0 x y fl0 H G n m W E a b r H') (fun _ => False)) := by
  obtain ⟨⟨ha, ra⟩, hb, rb⟩ := JI_at hJ hab
  have hM0 := h
  obtain ⟨hT, hG, ⟨w1, w2⟩, ⟨q1, q2, q3⟩, hJE⟩ := h
  obtain ⟨fa, oa, sA, la, ka5⟩ := hG.2.2.1 a ha
  obtain ⟨fb, ob, sB, lb5, kb5⟩ := hG.2.2.1 b hb
  obtain ⟨tia, ga, lsa, nea⟩ := HNode_12 hG ha ra (Or.inr ka)
  have ix := HG_x hG ha
  have iy := HG_x hG hb
  have hm5 := hG.1.2.2.2
  have hph := hkd_phi ha hb ra rb hne
  have ht1 := troots_1 ha ra
  have lka : (tkids (G.2 a)).length = (sp a).2 := by rw [ga]; exact hkd_len
  have hB0 := hB
  obtain ⟨bE, bW, -⟩ := hB0
  refine yl_Types_opens ?_
  unfold yb_Types_opens
  rw [ycv_T hT]
  refine zW_Ie (zc_s.trans (h_kind hT iy)) ?_
  rw [fb, yfb_7 ob]
  refine zW_if (fun k2 => zW_let ?_) (fun k2 => ?_)
  · exact h_or (d := d + 2) hC hw0 hx hy hJ hab hne hL ka (by omega) (by omega) (sp a).2 0 H [] (by omega) hM0 hAg_refl (fun q hq => absurd hq List.not_mem_nil) (fun j hj => by omega) rfl (by omega)
  · rw [ycv_T hT]
    refine zW_Ie (zc_s.trans (h_kind hT iy)) ?_
    rw [fb, yfb_7 ob]
    refine zW_if (fun k1 => ?_) (fun k1 => zW_rN rfl (Or.inl ⟨rfl, hAg_refl, fun wv q => ?_⟩))
    · rw [ycv_T hT]
      refine zW_Ie (zc_s.trans (h_many hT ix sA ka5 (by omega))) (zW_let (zW_let ?_))
      exact h_oo (d := d) hC hw0 hx hy hJ hab hne hM0 hL ka (by omega) hB
    · rcases HNode_kind hG hb rb with k | k | k | k | k | k
      · exact absurd k kb
      · obtain ⟨f, p1, p2, p3⟩ := HNode_5 hG hb rb k
        exact tS_rig hb ha rb ra p3 ga (by decide) ⟨q.1, q.2.1, q.2.2.symm⟩
      · obtain ⟨c, p1, p2, p3, p4⟩ := HNode_3 hG hb rb k
        exact tS_clash ha hb ra rb ga p4 (fun e => by have := hν.2.1 c; omega) ⟨q.1, q.2.2⟩
      · obtain ⟨p1, p2, p3⟩ := HNode_4 hG hb rb k
        exact tS_clash ha hb ra rb ga p3 (by decide) ⟨q.1, q.2.2⟩
      · omega
      · omega
end HJoin
