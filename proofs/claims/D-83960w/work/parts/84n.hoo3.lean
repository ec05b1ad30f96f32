set_option maxRecDepth 100000
/-! THE HOUSE'S TYPES: two open rows, whole -/
section HOo3
variable {B : Nat → Prop} {T : Nat → Nat} {ν : Hmp} {H H1 H' H2 : YS} {C : YC} {d k j n m x y a z t n0 a0 b0 ka kb sa sb all l : Nat} {v w i : Int} {Q : Option (Option ZV) → YS → Prop} {r s : Option Nat} {G G' G0 : TG} {fl fl0 fl' : Nat → Yfl} {sp : Nat → Nat × Nat} {lb lb' : Nat → List Int} {N : TN} {b : Nat} {b' : Yfl} {W W1 : TW} {E E' : List Nat} {adm : Nat → Bool} {K : Nat → Nat → Prop} {Rz : Nat → Prop}
theorem hJE_add (h : hJE adm G n E) (hw : tWF G n) (hN : N.1 = false) (hE : ∀ t ∈ E, t < n) : hJE adm (gAdd G n N) (n + 1) E := by
  have g1 : ∀ z, z < n → (gAdd G n N).1 z = G.1 z := fun z hz => if_neg (by omega)
  have g2 : ∀ z, z < n → (gAdd G n N).2 z = G.2 z := fun z hz => if_neg (by omega)
  intro z hz hr he
  by_cases q : z = n
  · rw [q, show (gAdd G n N).2 n = N from if_pos rfl, hN] at he
    cases he
  · have hz' : z < n := by omega
    rw [g1 z hz'] at hr
    rw [g2 z hz'] at he
    rcases h z hz' hr he with ⟨t, m1, m2⟩ | ⟨p1, p2⟩
    · exact Or.inl ⟨t, m1, by rw [g1 t (hE t m1)]; exact m2⟩
    · refine Or.inr ⟨fun lab loose kids hg => ?_, fun k hg => p2 k (by rw [← g2 z hz']; exact hg)⟩
      rw [g2 z hz'] at hg
      obtain ⟨c1, c2⟩ := p1 lab loose kids hg
      refine ⟨c1, fun hl l c m => ?_⟩
      have hc := (hw.2 z hz' hr (G.2 z).1 lab loose kids (Prod.ext rfl hg)).2 l c m
      rw [g1 c hc, g2 _ (hw.1 c hc).1]
      exact c2 hl l c m
/-- the new row's node and the links to it -/
theorem h_oo_end {Hf : YS} {o : Nat → List Int} (hw0 : tWF G0 n0) (hx : x < n0) (hy : y < n0) (hJ : JI G0 n0 x y G n ((a0, b0) :: W)) (hab : JAb G a0 b0 a b) (hne : a ≠ b) (h : HM adm B T ν H G n m fl sp lb W E) (hL : hLv K G0 n0 x y fl0 G n fl E) (ka : (fl a).1 = 1) (kb : (fl b).1 = 1) (hE : E.length + 1 < 60000) (hYb : hY m G n ≤ 300000) (hNb : hN G n ≤ 60000) (hSb : hS G n ≤ 511) (hl : l ≤ 1048576) (ha1 : hAg T [1211, 1212] [1, 2, 3, 4] H H1) (f1 : ∀ z : Int, hfl T H1 z = if z = (n : Int) then (yfb (1, false, false, min (lvl (fl a)) (lvl (fl b))) : Int) else hfl T H z) (s1 : ∀ z : Int, hsp T H1 z = if z = (n : Int) then ((512 * m + all : Nat) : Int) else hsp T H z) (t1 : ∀ z : Int, hti T H1 z = if z = (n : Int) then -1 else hti T H z) (n1 : hin T H1 1211 = (n : Int) + 1) (m1 : hin T H1 1212 = ((m + all : Nat) : Int)) (hall : all ≤ (sp a).2 + (sp b).2) (hm : hMs B T H H1 n m (fun i => lb ((sp a).1 + i)) (fun i => lb ((sp b).1 + i)) (sp a).2 (sp b).2 (sp a).1 (sp b).1 W Hf all (sp a).2 (sp b).2 o W1) : zW (zV (ycv (YL C) (d + 3) [(4, 81)] (some (T 0)) [.inl (a : Int), .inl (n : Int)] Hf) fun h11 => zV (ycv (YL C) (d + 3) [(4, 81)] (some (T 0)) [.inl (b : Int), .inl (n : Int)] h11) fun h12 => yrN 1 1 h12) (oI (fun r H' => HStep adm B T ν K G0 n0 x y fl0 H G n m W E a b r H') (fun _ => False)) := by
  obtain ⟨⟨ha, ra⟩, hb, rb⟩ := JI_at hJ hab
  have hM0 := h
  obtain ⟨hT, hG, ⟨w1, w2⟩, ⟨q1, q2, q3⟩, hJE⟩ := h
  obtain ⟨⟨p1, p2⟩, p3, p4, ⟨p5, p6⟩, ⟨p7, p8⟩, ⟨p9, p10, p11⟩, -, -⟩ := hm
  obtain ⟨fa, oa, sa, la, ka5⟩ := hG.2.2.1 a ha
  obtain ⟨fb, ob, sb, lb5, kb5⟩ := hG.2.2.1 b hb
  obtain ⟨tia, ga, lsa, nea⟩ := HNode_12 hG ha ra (Or.inr ka)
  obtain ⟨tib, gb, lsb, neb⟩ := HNode_12 hG hb rb (Or.inr kb)
  rw [ka] at ga
  rw [kb] at gb
  have ga : G.2 a = ((fl a).2.1, .inr (2, true, hkd T H (fun i => lb ((sp a).1 + i)) (sp a).1 (sp a).2)) := ga
  have gb : G.2 b = ((fl b).2.1, .inr (2, true, hkd T H (fun i => lb ((sp b).1 + i)) (sp b).1 (sp b).2)) := gb
  have T1 := HtA_ag hT ha1
  have Tf := HtA_ag T1 p1
  have agf : hAg T [1211, 1212, 1217] [1, 2, 3, 4, 6, 7, 8] H Hf := hAg_trans (hAg_mono ha1 (by decide) (by decide)) (hAg_mono p1 (by decide) (by decide))
  have e1 : hfl T Hf = hfl T H1 := hAg_a (as := [6, 7, 8]) T1 (by decide) (by decide) (by decide) p1
  have e2 : hsp T Hf = hsp T H1 := hAg_a (as := [6, 7, 8]) T1 (by decide) (by decide) (by decide) p1
  have e3 : hti T Hf = hti T H1 := hAg_a (as := [6, 7, 8]) T1 (by decide) (by decide) (by decide) p1
  have e5 : yA Hf (T 5) = yA H (T 5) := hAg_a (as := [1, 2, 3, 4, 6, 7, 8]) hT (by decide) (by decide) (by decide) agf
  have hn6 := hG.1.2.2.1
  have hm5 := hG.1.2.2.2
  -- weights
  have wa : tw G a = (if hkd T H (fun i => lb ((sp a).1 + i)) (sp a).1 (sp a).2 = [] then 1 else ((sp a).2 : Int)) := by
    rw [tw_at ra, ga]; show (if _ = [] then 1 else ((hkd T H (fun i => lb ((sp a).1 + i)) (sp a).1 (sp a).2).length : Int)) = _; rw [hkd_len]
  have wb : tw G b = (if hkd T H (fun i => lb ((sp b).1 + i)) (sp b).1 (sp b).2 = [] then 1 else ((sp b).2 : Int)) := by
    rw [tw_at rb, gb]; show (if _ = [] then 1 else ((hkd T H (fun i => lb ((sp b).1 + i)) (sp b).1 (sp b).2).length : Int)) = _; rw [hkd_len]
  have wle : ∀ (kk ss : Nat) (ff : Nat → List Int), ((kk : Int) ≤ (if hkd T H ff ss kk = [] then 1 else (kk : Int)) ∧ (1 : Int) ≤ (if hkd T H ff ss kk = [] then 1 else (kk : Int))) := by
    intro kk ss ff
    by_cases q : hkd T H ff ss kk = []
    · have := hkd_len (T := T) (H := H) (key := ff) (a := ss) (k := kk)
      rw [q, List.length_nil] at this
      rw [if_pos q]; omega
    · rw [if_neg q]
      have : kk ≠ 0 := fun w => q (by rw [w]; rfl)
      omega
  have wa2 := wle (sp a).2 (sp a).1 (fun i => lb ((sp a).1 + i))
  have wb2 := wle (sp b).2 (sp b).1 (fun i => lb ((sp b).1 + i))
  rw [← wa] at wa2
  rw [← wb] at wb2
  have lna : tln G a = 1 := by rw [tln_at ra, ga]
  have lnb : tln G b = 1 := by rw [tln_at rb, gb]
  have sumw : tw G a + tw G b ≤ isum (tw G) n := isum_two ha hb hne (fun z _ _ _ => tw_nn)
  have sumn : tln G a + tln G b ≤ isum (tln G) n := isum_two ha hb hne (fun z _ _ _ => tln_nn)
  have hall5 : all < 512 := by unfold hS at hSb; omega
  -- what the graph will be when a and b are one
  generalize hk : hkd T Hf (fun i => (fun p => if p < m then lb p else o (p - m)) (m + i)) m all = kN
  have hkN : ∀ l c, (l, c) ∈ kN ↔ ∃ q, q < all ∧ l = o q ∧ c = (hpt T Hf ((m + q : Nat) : Int)).toNat := by
    intro l c
    rw [← hk, hkd_in]
    have : ∀ q : Nat, (fun p => if p < m then lb p else o (p - m)) (m + q) = o q := fun q => by
      show (if m + q < m then _ else o (m + q - m)) = _
      rw [if_neg (by omega), show m + q - m = q by omega]
    constructor
    · rintro ⟨q, a1, a2, a3⟩; exact ⟨q, a1, by rw [a2, this], a3⟩
    · rintro ⟨q, a1, a2, a3⟩; exact ⟨q, a1, by rw [a2, this], a3⟩
  have lkN : kN.length = all := by rw [← hk]; exact hkd_len
  generalize hNr : (((fl a).2.1 || (fl b).2.1, .inr (2, true && true, kN)) : TN) = Nr
  have r1 := tlink_rb (N := Nr) rb hne
  have hJr : JI G0 n0 x y (tlink G a b Nr) n (W1 ++ W) := by
    rw [← hNr]
    refine JI_rows hw0 hx hy hJ hab hne ga gb ?_ (fun l => ?_) (fun l c mc => ?_) (fun q => by cases q) (fun q => by cases q) (fun q hq => ?_) (fun l c1 c2 m1 m2 => ?_)
    · rw [← hk]
      have : lsrt (fun i => (fun p => if p < m then lb p else o (p - m)) (m + i)) all := fun p q hpq hq => by
        show lcmp (if m + p < m then _ else o (m + p - m)) (if m + q < m then _ else o (m + q - m)) < 0
        rw [if_neg (by omega), if_neg (by omega), show m + p - m = p by omega, show m + q - m = q by omega]
        exact p7 p q hpq hq
      exact hkd_nodup (lb := fun p => if p < m then lb p else o (p - m)) this
    · constructor
      · rintro ⟨c, mc⟩
        obtain ⟨q, a1, a2, a3⟩ := (hkN l c).mp mc
        rcases (p4 q a1).2.2 with ⟨i', b1, b2, b3⟩ | ⟨j', b1, b2, b3⟩
        · exact Or.inl ⟨_, hkd_in.mpr ⟨i', b1, a2.trans b2, rfl⟩⟩
        · exact Or.inr ⟨_, hkd_in.mpr ⟨j', b1, a2.trans b2, rfl⟩⟩
      · rintro (⟨c, mc⟩ | ⟨c, mc⟩)
        · obtain ⟨i', b1, b2, b3⟩ := hkd_in.mp mc
          obtain ⟨q, a1, a2⟩ := p5 i' b1
          exact ⟨_, (hkN _ _).mpr ⟨q, a1, b2.trans a2.symm, rfl⟩⟩
        · obtain ⟨j', b1, b2, b3⟩ := hkd_in.mp mc
          obtain ⟨q, a1, a2⟩ := p6 j' b1
          exact ⟨_, (hkN _ _).mpr ⟨q, a1, b2.trans a2.symm, rfl⟩⟩
    · obtain ⟨q, a1, a2, a3⟩ := (hkN l c).mp mc
      rcases (p4 q a1).2.2 with ⟨i', b1, b2, b3⟩ | ⟨j', b1, b2, b3⟩
      · exact Or.inl (hkd_in.mpr ⟨i', b1, a2.trans b2, by rw [a3, b3]⟩)
      · exact Or.inr (hkd_in.mpr ⟨j', b1, a2.trans b2, by rw [a3, b3]⟩)
    · obtain ⟨i', j', b1, b2, b3, b4⟩ := p10 q hq
      exact ⟨lb ((sp a).1 + i'), Or.inl (hkd_in.mpr ⟨i', b1, rfl, by rw [b4]⟩), Or.inr (hkd_in.mpr ⟨j', b2, b3, by rw [b4]⟩)⟩
    · obtain ⟨i', b1, b2, b3⟩ := hkd_in.mp m1
      obtain ⟨j', c1', c2', c3'⟩ := hkd_in.mp m2
      left
      rw [b3, c3']
      exact p9 i' j' b1 c1' (b2.symm.trans c2')
  have hYr : hY ((m + all : Nat) : Int) (tlink G a b Nr) n ≤ hY m G n ∧ tKN (tlink G a b Nr) n + 1 = tKN G n ∧ hS (tlink G a b Nr) n ≤ hS G n := by
    have ln : tln (tlink G a b Nr) b = 1 := by rw [tln_at r1, tlink_2b, ← hNr]; rfl
    have wn : tw (tlink G a b Nr) b ≤ tw G a + tw G b := by
      rw [tw_at r1, tlink_2b, ← hNr]
      show (if kN = [] then 1 else (kN.length : Int)) ≤ _
      rw [lkN]
      split <;> omega
    refine ⟨hY_link ha hb ra rb hne wn (by omega) ?_, ?_, ?_⟩
    · rw [ln, lna, lnb]
      have := Int.mul_nonneg (show 0 ≤ tw G a - 1 by omega) (show 0 ≤ tw G b - 1 by omega)
      have e : (tw G a - 1) * (tw G b - 1) = tw G a * tw G b - tw G a - tw G b + 1 := by grind
      rw [e] at this
      omega
    · have e3 := isum_two_eq (f := tln G) (g := tln (tlink G a b Nr)) ha hb hne (fun z hz zx zy => (tlo_link zx zy rb).2)
      have z1 : (tlink G a b Nr).1 a ≠ a := by
        show (if G.1 a = a then b else G.1 a) ≠ a
        rw [if_pos ra]; exact fun q => hne q.symm
      have zn := (tlo_no z1).2
      unfold tKN
      omega
    · have e1 := isum_two_eq (f := tw G) (g := tw (tlink G a b Nr)) ha hb hne (fun z hz zx zy => tw_link zx zy rb)
      have z1 : (tlink G a b Nr).1 a ≠ a := by
        show (if G.1 a = a then b else G.1 a) ≠ a
        rw [if_pos ra]; exact fun q => hne q.symm
      have za := tw_no z1
      unfold hS
      omega
  have hn60 : n < 60000 := by
    have : (2 : Int) ≤ tKN G n := by unfold tKN; omega
    unfold hN at hNb; omega
  have hm15 : m + all ≤ 150000 := by
    have := hY_m (m := m + all) (G := tlink G a b Nr) (n := n)
    omega
  -- the node
  generalize hb1 : ((1, false, false, min (lvl (fl a)) (lvl (fl b))) : Yfl) = b1
  have ob1 : yfOK b1 := by
    rw [← hb1]
    refine ⟨(by decide : (1 : Nat) < 8), ?_⟩
    have : lvl (fl a) ≤ 1048576 := oa.2
    show min (lvl (fl a)) (lvl (fl b)) ≤ _
    omega
  generalize hN0 : ((false, .inr (2, true, kN)) : TN) = N0
  have nd0 : HNode T ν Hf (fun p => if p < m then lb p else o (p - m)) N0 b1 m all n := by
    refine Or.inr (Or.inr (Or.inr (Or.inr ⟨Or.inr (by rw [← hb1]), by rw [e3, t1, if_pos rfl], by rw [← hN0, ← hb1, ← hk]; rfl, fun p q hpq hq => ?_, fun q hq => ?_⟩)))
    · show lcmp (if m + p < m then _ else o (m + p - m)) (if m + q < m then _ else o (m + q - m)) < 0
      rw [if_neg (by omega), if_neg (by omega), show m + p - m = p by omega, show m + q - m = q by omega]
      exact p7 p q hpq hq
    · show (if m + q < m then _ else o (m + q - m)) ≠ []
      rw [if_neg (by omega), show m + q - m = q by omega]
      exact (p4 q hq).2.1
  have hGf : HG B T ν Hf (gAdd G n N0) (n + 1) (m + all) (fup fl n b1) (fup sp n (m, all)) (fun p => if p < m then lb p else o (p - m)) Rz0 := by
    refine HG_new hT hG hn60 hm15 hall5 agf (by decide) (by rw [hAg_f (fs := [1211, 1212, 1217]) (by decide) agf]; exact Int.le_refl _) (by decide) (by rw [hAg_f (fs := [1217]) (by decide) p1]; exact n1) (by rw [hAg_f (fs := [1217]) (by decide) p1]; exact m1) (fun z hz => ?_) (by rw [e1, f1, if_pos rfl, hb1]) (by rw [e2, s1, if_pos rfl]) ob1 (fun p hp => p3 p hp) (fun p hp => if_pos hp) (by rw [e3, t1, if_pos rfl]; decide) (fun q hq => ?_) nd0 (fun _ _ _ q => q)
    · rw [e1, e2, e3, f1, s1, t1, if_neg (by omega), if_neg (by omega), if_neg (by omega)]
      exact ⟨rfl, rfl, rfl⟩
    · obtain ⟨⟨s, u1, u2, u3⟩, u4, u5⟩ := p4 q hq
      have eo : (if m + q < m then lb (m + q) else o (m + q - m)) = o q := by
        rw [if_neg (by omega), show m + q - m = q by omega]
      refine ⟨?_, s, u1, by rw [eo]; exact u2, by rw [eo]; exact u3⟩
      rcases u5 with ⟨i', v1, v2, v3⟩ | ⟨j', v1, v2, v3⟩
      · have := (hG.2.2.2.2.1 ((sp a).1 + i') (by omega) (fun z hz q => q.elim)).1
        rw [v3]; exact this
      · have := (hG.2.2.2.2.1 ((sp b).1 + j') (by omega) (fun z hz q => q.elim)).1
        rw [v3]; exact this
  have hMf : HM adm B T ν Hf (gAdd G n N0) (n + 1) (m + all) (fup fl n b1) (fup sp n (m, all)) (fun p => if p < m then lb p else o (p - m)) (W1 ++ W) E := ⟨Tf, hGf, p2, ⟨hEs_eq (fun k _ => by rw [e5]) q1, by rw [hAg_f (fs := [1211, 1212, 1217]) (by decide) agf]; exact q2, fun t mt => by have := q3 t mt; omega⟩, hJE_add hJE hJ.1 (by rw [← hN0]) q3⟩
  have ga1 : ∀ z, z < n → (gAdd G n N0).1 z = G.1 z := fun z hz => if_neg (by omega)
  have ga2 : ∀ z, z < n → (gAdd G n N0).2 z = G.2 z := fun z hz => if_neg (by omega)
  have gan : (gAdd G n N0).1 n = n ∧ (gAdd G n N0).2 n = N0 := ⟨if_pos rfl, if_pos rfl⟩
  -- a goes to it
  obtain ⟨H5, u1, u2, u3, u4, u5, u6⟩ := h_link (C := C) (d := d + 1) (b := fl a) (b' := b1) (t := E.length) Tf (x := a) (y := n) (by omega) (by omega) (by omega) (by rw [e1, f1, if_neg (by omega)]; exact fa) (by rw [e1, f1, if_pos rfl, hb1]) oa ob1 hMf.2.2.2.1.2.1 (by omega)
  rw [ycv_T Tf]
  refine zW_Ve (zc_s.trans u1) ?_
  have spn : fup sp n (m, all) n = (m, all) := if_pos rfl
  have nd1 := HNode_b (e := (fl a).2.1) (l := min (lvl (fl a)) (lvl b1)) nd0
  have hM5 := HM_link (b' := ybec (fl a) b1) hMf (a := a) (b := n) (by omega) (by omega) (by rw [ga1 a ha]; exact ra) gan.1 (by omega) u2 (fun z _ => by
    rw [u3, e1, f1]
    by_cases q : z = n
    · rw [if_pos (by omega), if_pos q]
    · rw [if_neg (by omega), if_neg q]) (fun z _ => by
    rw [u4]
    by_cases q : z = a
    · rw [if_pos (by omega), if_pos q]
    · rw [if_neg (by omega), if_neg q]) u5 u6 (ybec_OK oa ob1) (by rw [spn]; exact nd1) (by
    rw [ga2 a ha, gan.2, ga]
    show (N0.1 || _) = _
    rw [Bool.or_comm])
  have T5 := hM5.1
  -- b goes to it
  have fb5 : hfl T H5 b = (yfb (fl b) : Int) := by rw [u3, if_neg (by omega), e1, f1, if_neg (by omega)]; exact fb
  obtain ⟨H6, y1, y2, y3, y4, y5, y6⟩ := h_link (C := C) (d := d + 1) (b := fl b) (b' := ybec (fl a) b1) (t := (E ++ [n]).length) T5 (x := b) (y := n) (by omega) (by omega) (by omega) fb5 (by rw [u3, if_pos rfl]) ob (ybec_OK oa ob1) hM5.2.2.2.1.2.1 (by rw [List.length_append, List.length_singleton]; omega)
  rw [ycv_T T5]
  refine zW_Ve (zc_s.trans y1) (zW_rN rfl ?_)
  generalize hG1 : tlink (gAdd G n N0) a n (N0.1 || (fl a).2.1, N0.2) = G1 at hM5
  have g1n : G1.1 n = n := by
    rw [← hG1]
    show (if (gAdd G n N0).1 n = a then n else (gAdd G n N0).1 n) = n
    rw [gan.1, if_neg (by omega)]
  have g1z : ∀ z, z < n → G1.1 z = if G.1 z = a then n else G.1 z := fun z hz => by
    rw [← hG1]
    show (if (gAdd G n N0).1 z = a then n else (gAdd G n N0).1 z) = _
    rw [ga1 z hz]
  have g12 : ∀ z, z < n → G1.2 z = G.2 z := fun z hz => by
    rw [← hG1]
    show (if z = n then _ else (gAdd G n N0).2 z) = _
    rw [if_neg (by omega), ga2 z hz]
  have g12n : G1.2 n = (N0.1 || (fl a).2.1, N0.2) := by
    rw [← hG1]; exact if_pos rfl
  have nd2 := HNode_b (e := (fl b).2.1) (l := min (lvl (fl b)) (lvl (ybec (fl a) b1))) (hM5.2.1.2.2.2.2.2.1 n (by omega) g1n (fun q => q))
  rw [g12n, show fup (fup fl n b1) n (ybec (fl a) b1) n = ybec (fl a) b1 from if_pos rfl] at nd2
  have hM6 := HM_link (b' := ybec (fl b) (ybec (fl a) b1)) hM5 (a := b) (b := n) (by omega) (by omega) (by rw [g1z b hb, rb, if_neg (fun q => hne q.symm)]) g1n (by omega) y2 (fun z _ => by
    rw [y3]
    by_cases q : z = n
    · rw [if_pos (by omega), if_pos q]
    · rw [if_neg (by omega), if_neg q]) (fun z _ => by
    rw [y4]
    by_cases q : z = b
    · rw [if_pos (by omega), if_pos q]
    · rw [if_neg (by omega), if_neg q]) y5 y6 (ybec_OK ob (ybec_OK oa ob1)) nd2 (by
    rw [g12 b hb, g12n, gb]
    show (_ || (fl b).2.1) = ((fl b).2.1 || _)
    rw [Bool.or_comm])
  generalize hG2 : tlink G1 b n ((N0.1 || (fl a).2.1) || (fl b).2.1, N0.2) = G2 at hM6
  have mv : tMv (tlink G a b Nr) n b G2 := by
    refine ⟨fun z hz => ?_, ?_, fun z hz zb => ?_, ?_⟩
    · rw [← hG2]
      show (if G1.1 z = b then n else G1.1 z) = if (if G.1 z = a then b else G.1 z) = b then n else (if G.1 z = a then b else G.1 z)
      rw [g1z z hz]
      by_cases q : G.1 z = a
      · rw [if_pos q, if_pos q, if_neg (by omega), if_pos rfl]
      · rw [if_neg q, if_neg q]
    · rw [← hG2]
      show (if G1.1 n = b then n else G1.1 n) = n
      rw [g1n, if_neg (by omega)]
    · rw [← hG2]
      show (if z = n then _ else G1.2 z) = if z = b then Nr else G.2 z
      rw [if_neg (by omega), if_neg zb, g12 z hz]
    · rw [← hG2, tlink_2b, tlink_2b, ← hNr, ← hN0]; rfl
  have hn0 := hJ.2.2.2.2.1.1
  have hpl : ∃ c, c < n0 ∧ tBel G0 x y c ∧ (tlink G a b Nr).1 c = b := by
    have h2 := hJ.2.1 (a0, b0) (List.mem_cons_self ..)
    rcases hab with ⟨_, e⟩ | ⟨_, e⟩
    · exact ⟨b0, h2.2.1, h2.2.2, by show (if G.1 b0 = a then b else G.1 b0) = b; rw [e, if_neg (fun q => hne q.symm)]⟩
    · exact ⟨a0, h2.1.1, h2.1.2, by show (if G.1 a0 = a then b else G.1 a0) = b; rw [e, if_neg (fun q => hne q.symm)]⟩
  have hJ6 : JI G0 n0 x y G2 (n + 1) (W1 ++ W) := by
    refine JI_new hJr hb r1 (fun k => by rw [tlink_2b, ← hNr]; exact fun q => by cases q) hw0 ⟨hpl, fun l z mz => ?_⟩ mv.1 mv.2.1 mv.2.2.1 mv.2.2.2
    obtain ⟨c, c1, c2, c3⟩ := hpl
    exact JI_kid hw0 hx hy hJr c1 c2 (l := l) (by rw [c3]; exact mz)
  obtain ⟨s1', s2', s3', s4'⟩ := tMv_sums mv hb r1
  have hrt := tMv_roots mv hb r1
  have hrl := troots_link (N := Nr) ha rb ra hne
  refine Or.inr ⟨rfl, hAg_trans (hAg_trans (hAg_mono agf (by decide) (by decide)) (hAg_mono u2 (by decide) (by decide))) (hAg_mono y2 (by decide) (by decide)), G2, n + 1, m + all, _, _, _, W1 ++ W, _, hJ6, hM6, ?_, ?_, ?_, by omega, ?_, ?_, ?_⟩
  · refine hLv_move (fl := fup fl b (ybec (fl a) (fl b))) (E := E) (hLv_link (b' := ybec (fl a) (fl b)) hJ hab hne hL rfl) hn0 hJr.1 mv hb r1 q3 (fun t mt => by simp [mt]) (by simp) (fun t mt => ?_) (fun z hz zb => ?_) ?_ (fun z hz rz hnb => ?_)
    · rcases List.mem_append.mp mt with mt | mt
      · rcases List.mem_append.mp mt with mt | mt
        · exact Or.inl mt
        · exact Or.inr (by simpa using mt)
      · exact Or.inr (by simpa using mt)
    · rw [show fup fl b (ybec (fl a) (fl b)) z = fl z from if_neg zb, show fup (fup (fup fl n b1) n (ybec (fl a) b1)) n (ybec (fl b) (ybec (fl a) b1)) z = fup (fup fl n b1) n (ybec (fl a) b1) z from if_neg (by omega), show fup (fup fl n b1) n (ybec (fl a) b1) z = fup fl n b1 z from if_neg (by omega)]
      exact if_neg (by omega)
    · rw [show fup (fup (fup fl n b1) n (ybec (fl a) b1)) n (ybec (fl b) (ybec (fl a) b1)) n = ybec (fl b) (ybec (fl a) b1) from if_pos rfl, show fup fl b (ybec (fl a) (fl b)) b = ybec (fl a) (fl b) from if_pos rfl, ← hb1]
      show min (lvl (fl b)) (min (lvl (fl a)) (min (lvl (fl a)) (lvl (fl b)))) = min (lvl (fl a)) (lvl (fl b))
      omega
    · rw [show fup (fup (fup fl n b1) n (ybec (fl a) b1)) n (ybec (fl b) (ybec (fl a) b1)) z = fup (fup fl n b1) n (ybec (fl a) b1) z from if_neg (by omega), show fup (fup fl n b1) n (ybec (fl a) b1) z = fup fl n b1 z from if_neg (by omega), show fup fl n b1 z = fl z from if_neg (by omega)]
      exact hL.2.2.2.1 z hz rz hnb
  · have := tPhi_link (N := Nr) ha hb ra rb hne
    rw [ga, gb, ← hNr] at this
    have x1 : (tkids (((fl a).2.1, .inr (2, true, hkd T H (fun i => lb ((sp a).1 + i)) (sp a).1 (sp a).2)) : TN)).length = (sp a).2 := hkd_len
    have x2 : (tkids (((fl b).2.1, .inr (2, true, hkd T H (fun i => lb ((sp b).1 + i)) (sp b).1 (sp b).2)) : TN)).length = (sp b).2 := hkd_len
    have x3 : (tkids (((fl a).2.1 || (fl b).2.1, .inr (2, true && true, kN)) : TN)).length = all := lkN
    rw [x1, x2, x3, hNr] at this
    rw [List.length_append, s1']
    omega
  · rw [List.length_append, List.length_append, List.length_singleton]
    omega
  · rw [hY_move mv hb r1]; exact hYr.1
  · unfold hN
    rw [s2']
    have := hYr.2.1
    omega
  · unfold hS
    rw [s3']; exact hYr.2.2
end HOo3
