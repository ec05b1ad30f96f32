set_option maxRecDepth 100000
/-! THE HOUSE'S TYPES: two of one kind -/
/-- parts side by side -/
def hpr (T : Nat → Nat) (H : YS) (sa sb j : Nat) : Nat × Nat := ((hpt T H ((sa + j : Nat) : Int)).toNat, (hpt T H ((sb + j : Nat) : Int)).toNat)
section HJoins
variable {B : Nat → Prop} {T : Nat → Nat} {ν : Hmp} {H H' H2 : YS} {C : YC} {d f k j n m x y a z t n0 a0 b0 : Nat} {fs as fs' as' : List Nat} {v w i : Int} {Q : Option (Option ZV) → YS → Prop} {r s : Option Nat} {G G' G0 : TG} {fl fl0 : Nat → Yfl} {sp : Nat → Nat × Nat} {lb : Nat → List Int} {N : TN} {b : Nat} {b' : Yfl} {W : TW} {E : List Nat} {adm : Nat → Bool} {K : Nat → Nat → Prop}
theorem hWs_len (h : hWs T H W) (e : yA H' (T 8) = yA H (T 8)) : hWs T H' W := hWs_a e h
/-- a push, with its frame -/
theorem h_push2 (hT : HtA T H) (h : hWs T H W) (hl : hin T H 1217 = (W.length : Int)) (hW : W.length < 150000) (hx : x < 60000) (hy : y < 60000) : ∃ H', YL C d 78 [zr (T 0), .inl (x : Int), .inl (y : Int)] H = some (some none, H') ∧ hAg T [1217] [8] H H' ∧ hWs T H' ((x, y) :: W) ∧ hin T H' 1217 = (((x, y) :: W).length : Int) :=
  ⟨_, h_push hT hl hW hx hy, hAg_put (by decide) (hAg_set (by decide) hAg_refl), hWs_push hT h rfl, by
    rw [List.length_cons]
    exact hput_s.trans (by omega)⟩
theorem HM_push {W' : TW} (h : HM adm B T ν H G n m fl sp lb W E) (hag : hAg T [1217] [8] H H') (hw : hWs T H' W') (hl : hin T H' 1217 = (W'.length : Int)) : HM adm B T ν H' G n m fl sp lb W' E := by
  obtain ⟨hT, hG, ⟨w1, w2⟩, ⟨q1, q2, q3⟩, hJE⟩ := h
  exact ⟨HtA_ag hT hag, HG_ag hT hG hag (by decide) (by decide), ⟨hw, hl⟩, ⟨hEs_eq (fun k _ => by rw [hAg_a hT (by decide) (by decide) (by decide) hag]) q1, by rw [hAg_f (by decide) hag]; exact q2, q3⟩, hJE⟩
/-- parts of both, from some on -/
theorem h_pairs (hx : a < n) (hy : b < n) (ka : (sp a).2 = k) (kb : (sp b).2 = k) : ∀ (r i : Nat) (H : YS) (W : TW), i + r = k → HM adm B T ν H G n m fl sp lb W E → W.length + r ≤ 150000 → zW (YL C (d + 1) 781 [zr (T 0), .inl (a : Int), .inl (b : Int), .inl (k : Int), .inl (i : Int)] H) (oI (fun v H' => v = 1 ∧ hAg T [1217] [8] H H' ∧ ∃ W1 : TW, (∀ q, q ∈ W1 ↔ ∃ j, (i ≤ j ∧ j < k) ∧ q = hpr T H (sp a).1 (sp b).1 j) ∧ W1.length = r ∧ HM adm B T ν H' G n m fl sp lb (W1 ++ W) E) (fun _ => False)) := by
  intro r
  induction r with
  | zero =>
    intro i H W hi h hW
    refine yl_Types_joins_p171 ?_
    unfold yb_Types_joins_p171
    refine zW_f (by omega) (zW_rN rfl ⟨rfl, hAg_refl, [], fun q => ⟨fun m => absurd m List.not_mem_nil, fun ⟨j, hj, _⟩ => by omega⟩, rfl, h⟩)
  | succ r ih =>
    intro i H W hi h hW
    obtain ⟨hT, hG, ⟨w1, w2⟩, ⟨q1, q2, q3⟩, hJE⟩ := h
    have hm : HM adm B T ν H G n m fl sp lb W E := ⟨hT, hG, ⟨w1, w2⟩, ⟨q1, q2, q3⟩, hJE⟩
    obtain ⟨_, _, sa, la, _⟩ := hG.2.2.1 a hx
    obtain ⟨_, _, sb, lb', _⟩ := hG.2.2.1 b hy
    have hm5 := hG.1.2.2.2
    have hn6 := hG.1.2.2.1
    obtain ⟨⟨pa0, pa1⟩, _⟩ := hG.2.2.2.2.1 ((sp a).1 + i) (by omega) (fun z hz q => q.elim)
    obtain ⟨⟨pb0, pb1⟩, _⟩ := hG.2.2.2.2.1 ((sp b).1 + i) (by omega) (fun z hz q => q.elim)
    have ix := HG_x hG hx
    have iy := HG_x hG hy
    refine yl_Types_joins_p171 ?_
    unfold yb_Types_joins_p171
    refine zW_t (by omega) ?_
    rw [ycv_T hT]
    refine zW_Ie (zc_s.trans (h_raw hT ix sa (by omega) (by omega))) ?_
    rw [ycv_T hT]
    refine zW_Ie (zc_s.trans (h_raw hT iy sb (by omega) (by omega))) ?_
    rw [ycv_T hT, show hpt T H (((sp a).1 + i : Nat) : Int) = ((hpr T H (sp a).1 (sp b).1 i).1 : Int) from (Int.toNat_of_nonneg pa0).symm, show hpt T H (((sp b).1 + i : Nat) : Int) = ((hpr T H (sp a).1 (sp b).1 i).2 : Int) from (Int.toNat_of_nonneg pb0).symm]
    have l1 : (hpr T H (sp a).1 (sp b).1 i).1 < 60000 := by
      show (hpt T H (((sp a).1 + i : Nat) : Int)).toNat < 60000
      omega
    have l2 : (hpr T H (sp a).1 (sp b).1 i).2 < 60000 := by
      show (hpt T H (((sp b).1 + i : Nat) : Int)).toNat < 60000
      omega
    obtain ⟨H1, u1, u2, u3, u4⟩ := h_push2 (C := C) (d := d) hT w1 w2 (by omega) l1 l2
    refine zW_Ve (zc_s.trans u1) (zW_G (by omega) (zW_let ?_))
    have hM1 := HM_push hm u2 u3 u4
    rw [show (i : Int) + 1 = ((i + 1 : Nat) : Int) by omega]
    refine zW_mono (ih (i + 1) H1 _ (by omega) hM1 (by rw [List.length_cons]; omega)) (fun o H' hq => ?_)
    rcases o with _ | _ | v | v | v
    · exact hq
    · exact hq
    · obtain ⟨v1, v2, W1, v3, v4, v5⟩ := hq
      have e6 : hpt T H1 = hpt T H := hAg_a (as := [8]) hT (by decide) (by decide) (by decide) u2
      refine ⟨v1, hAg_trans u2 v2, W1 ++ [hpr T H (sp a).1 (sp b).1 i], fun q => ?_, by rw [List.length_append, List.length_singleton, v4], by rw [List.append_assoc]; exact v5⟩
      rw [List.mem_append, v3]
      have ef : ∀ j, hpr T H1 (sp a).1 (sp b).1 j = hpr T H (sp a).1 (sp b).1 j := fun j => by unfold hpr; rw [e6]
      constructor
      · rintro (⟨j, hj, e⟩ | hq)
        · exact ⟨j, by omega, by rw [e, ef]⟩
        · exact ⟨i, by omega, by simpa using hq⟩
      · rintro ⟨j, hj, e⟩
        by_cases q' : j = i
        · right; rw [e, q']; simp
        · exact Or.inl ⟨j, by omega, by rw [e, ef]⟩
    · exact hq
    · exact hq
theorem hkd_len {key : Nat → Ky} : (hkd T H key a k).length = k := by unfold hkd; rw [List.length_map, List.length_range]
theorem hkd_fst {key : Nat → Ky} : (hkd T H key a k).map Prod.fst = (List.range k).map key := by unfold hkd; rw [List.map_map]; rfl
theorem hkd_in {key : Nat → Ky} {l : Ky} {c : Nat} : (l, c) ∈ hkd T H key a k ↔ ∃ i, i < k ∧ l = key i ∧ c = (hpt T H ((a + i : Nat) : Int)).toNat := by
  unfold hkd
  rw [List.mem_map]
  constructor
  · rintro ⟨i, hi, e⟩
    cases e
    exact ⟨i, List.mem_range.mp hi, rfl, rfl⟩
  · rintro ⟨i, hi, rfl, rfl⟩
    exact ⟨i, List.mem_range.mpr hi, rfl⟩
theorem tPhi_one (ha : a < n) (ra : G.1 a = a) : ((tkids (G.2 a)).length : Int) ≤ tPhi G n := by
  have := isum_one (n := n) (x := a) (d := fun z => @ite Int (G.1 z = z) (Classical.propDecidable _) ((tkids (G.2 z)).length : Int) 0) ha (fun z _ _ => by
    show (0 : Int) ≤ @ite Int (G.1 z = z) (Classical.propDecidable _) ((tkids (G.2 z)).length : Int) 0
    split <;> omega)
  have e : @ite Int (G.1 a = a) (Classical.propDecidable _) ((tkids (G.2 a)).length : Int) 0 = ((tkids (G.2 a)).length : Int) := if_pos ra
  have this : @ite Int (G.1 a = a) (Classical.propDecidable _) ((tkids (G.2 a)).length : Int) 0 ≤ tPhi G n := this
  rw [e] at this; exact this
/-- both have the same keys: a becomes b, parts wait -/
theorem h_same {ea eb : Bool} {lab : Nat} {keyA keyB : Nat → Ky} (hw0 : tWF G0 n0) (hx : x < n0) (hy : y < n0) (hJ : JI G0 n0 x y G n ((a0, b0) :: W)) (hab : JAb G a0 b0 a b) (hne : a ≠ b) (h : HM adm B T ν H G n m fl sp lb W E) (hL : hLv K G0 n0 x y fl0 G n fl E) (ka : (fl a).1 ≠ 5) (hE : E.length < 60000) (hW : (W.length : Int) + tPhi G n < 150000) (ga : G.2 a = (ea, .inr (lab, false, hkd T H keyA (sp a).1 k))) (gb : G.2 b = (eb, .inr (lab, false, hkd T H keyB (sp b).1 k))) (sa : (sp a).2 = k) (sb : (sp b).2 = k) (hk : ∀ i, i < k → keyA i = keyB i) : zW (zV (ycv (YL C) (d + 3) [(4, 81)] (some (T 0)) [.inl (a : Int), .inl (b : Int)] H) fun h10 => zlet (0 : Int) fun x4 => YL C (d + 3) 781 [zr (T 0), .inl (a : Int), .inl (b : Int), .inl (k : Int), .inl x4] h10) (oI (fun r H' => HStep adm B T ν K G0 n0 x y fl0 H G n m W E a b r H') (fun _ => False)) := by
  obtain ⟨⟨ha, ra⟩, hb, rb⟩ := JI_at hJ hab
  have hm := h
  obtain ⟨hT, hG, ⟨w1, w2⟩, ⟨q1, q2, q3⟩, hJE⟩ := h
  obtain ⟨f1, o1, _⟩ := hG.2.2.1 a ha
  obtain ⟨f2, o2, _⟩ := hG.2.2.1 b hb
  have hn6 := hG.1.2.2.1
  have nda := hG.2.2.2.2.2.1 a ha ra (fun q => q)
  have ndb := hG.2.2.2.2.2.1 b hb rb (fun q => q)
  have eA : (fl a).2.1 = ea := by rw [← HNode_e nda ka, ga]
  obtain ⟨H1, u1, u2, u3, u4, u5, u6⟩ := h_link (C := C) (d := d + 1) (b := fl a) (b' := fl b) (t := E.length) hT (x := a) (y := b) (by omega) (by omega) hne f1 f2 o1 o2 q2 hE
  rw [ycv_T hT]
  refine zW_Ve (zc_s.trans u1) (zW_let ?_)
  have nd := HNode_b (e := (fl a).2.1) (l := min (lvl (fl a)) (lvl (fl b))) ndb
  have hM1 := HM_link (b' := ybec (fl a) (fl b)) hm ha hb ra rb hne u2 (fun z _ => by
    rw [u3]
    by_cases q : z = b
    · rw [if_pos (by omega), if_pos q]
    · rw [if_neg (by omega), if_neg q]) (fun z _ => by
    rw [u4]
    by_cases q : z = a
    · rw [if_pos (by omega), if_pos q]
    · rw [if_neg (by omega), if_neg q]) u5 u6 (ybec_OK o1 o2) nd (by
    show ((G.2 b).1 || (fl a).2.1) = _
    rw [eA, ga, Bool.or_comm])
  have hkl : (k : Int) ≤ tPhi G n := by
    have := tPhi_one ha ra
    rw [ga] at this
    have e : (tkids ((ea, .inr (lab, false, hkd T H keyA (sp a).1 k)) : TN)).length = k := hkd_len
    rw [e] at this; exact this
  have e6 : hpt T H1 = hpt T H := hAg_a (as := [1, 3, 5]) hT (by decide) (by decide) (by decide) u2
  refine zW_mono (h_pairs (C := C) (d := d + 2) ha hb sa sb k 0 H1 W (by omega) hM1 (by omega)) (fun o H' hq => ?_)
  rcases o with _ | _ | v | v | v
  · exact hq
  · exact hq
  · obtain ⟨rfl, v2, W1, v3, v4, v5⟩ := hq
    have hk' : (hkd T H keyA (sp a).1 k).map Prod.fst = (hkd T H keyB (sp b).1 k).map Prod.fst := by
      rw [hkd_fst, hkd_fst]
      exact List.map_congr_left fun i hi => hk i (List.mem_range.mp hi)
    have hz : ∀ q, q ∈ W1 ↔ q ∈ tzip (hkd T H keyA (sp a).1 k) (hkd T H keyB (sp b).1 k) := by
      intro q
      rw [v3]
      unfold tzip hkd
      rw [List.map_map, List.map_map, List.zip_map']
      rw [List.mem_map]
      constructor
      · rintro ⟨j, hj, e⟩
        refine ⟨j, List.mem_range.mpr hj.2, ?_⟩
        rw [e]; unfold hpr; rw [e6]; rfl
      · rintro ⟨j, hj, e⟩
        refine ⟨j, ⟨by omega, List.mem_range.mp hj⟩, ?_⟩
        rw [← e]; unfold hpr; rw [e6]; rfl
    have hJ' := JI_same hw0 hx hy hJ hab hne ga gb hk' hz
    have en : (((G.2 b).1 || (fl a).2.1, (G.2 b).2) : TN) = (ea || eb, .inr (lab, false, hkd T H keyB (sp b).1 k)) := by
      rw [gb, eA, Bool.or_comm]
    rw [en] at v5
    refine Or.inr ⟨rfl, hAg_trans (hAg_mono u2 (by decide) (by decide)) (hAg_mono v2 (by decide) (by decide)), _, _, _, _, _, _, _, _, hJ', v5, hLv_link hJ hab hne hL rfl, ?_, ?_, troots_link ha rb ra hne, (hY_same ha hb ra rb hne (Or.inl (by rw [gb]))).1, ?_, (hY_same (m := m) (N := (ea || eb, .inr (lab, false, hkd T H keyB (sp b).1 k))) ha hb ra rb hne (Or.inl (by rw [gb]))).2.2⟩
    · have := tPhi_link (N := (ea || eb, .inr (lab, false, hkd T H keyB (sp b).1 k))) ha hb ra rb hne
      rw [ga, gb] at this
      have e1 : (tkids ((ea, .inr (lab, false, hkd T H keyA (sp a).1 k)) : TN)).length = k := hkd_len
      have e2 : (tkids ((eb, .inr (lab, false, hkd T H keyB (sp b).1 k)) : TN)).length = k := hkd_len
      have e3 : (tkids ((ea || eb, .inr (lab, false, hkd T H keyB (sp b).1 k)) : TN)).length = k := hkd_len
      rw [e1, e2, e3] at this
      rw [List.length_append, v4]; omega
    · have := troots_link (N := (ea || eb, .inr (lab, false, hkd T H keyB (sp b).1 k))) ha rb ra hne
      rw [List.length_append, List.length_singleton]
      omega
    · have := (hY_same (m := m) (N := (ea || eb, .inr (lab, false, hkd T H keyB (sp b).1 k))) ha hb ra rb hne (Or.inl (by rw [gb]))).2.1
      unfold Jvm.Pilot.CMlHouseLaw_law_r1995_beea5f.hN
      omega
  · exact hq
  · exact hq
/-- labels of both rows, from some on -/
theorem h_labels (hC : CW C) (h : HM adm B T ν H G n m fl sp lb W E) (ha : a < n) (hb : b < n) (ka : (fl a).1 = 2) (sa : (sp a).2 = k) (sb : (sp b).2 = k) (h0 : (∃ i, i < k ∧ (∀ j, j < i → lb ((sp a).1 + j) = lb ((sp b).1 + j)) ∧ lb ((sp a).1 + i) ≠ lb ((sp b).1 + i)) → Q (some (some (.inl 0))) H) (h1 : (∀ i, i < k → lb ((sp a).1 + i) = lb ((sp b).1 + i)) → zW (zV (ycv (YL C) (d + 2) [(4, 81)] (some (T 0)) [.inl (a : Int), .inl (b : Int)] H) fun h10 => zlet (0 : Int) fun x4 => YL C (d + 2) 781 [zr (T 0), .inl (a : Int), .inl (b : Int), .inl (k : Int), .inl x4] h10) Q) : ∀ (r i : Nat), i + r = k → (∀ j, j < i → lb ((sp a).1 + j) = lb ((sp b).1 + j)) → zW (YL C (d + 2) 545 [zr (T 0), .inl (a : Int), .inl (b : Int), .inl (k : Int), .inl (i : Int)] H) Q := by
  intro r
  induction r with
  | zero =>
    intro i hi hp
    refine yl_Types_joins_p119 ?_
    unfold yb_Types_joins_p119
    exact zW_f (by omega) (h1 (fun j hj => hp j (by omega)))
  | succ r ih =>
    intro i hi hp
    obtain ⟨hT, hG, _⟩ := h
    obtain ⟨f1, o1, s1, l1, _⟩ := hG.2.2.1 a ha
    obtain ⟨f2, o2, s2, l2, _⟩ := hG.2.2.1 b hb
    have ix := HG_x hG ha
    have iy := HG_x hG hb
    have hm5 := hG.1.2.2.2
    obtain ⟨_, sA, pa1, pa2, pa3⟩ := hG.2.2.2.2.1 ((sp a).1 + i) (by omega) (fun z hz q => q.elim)
    obtain ⟨_, sB, pb1, pb2, pb3⟩ := hG.2.2.2.2.1 ((sp b).1 + i) (by omega) (fun z hz q => q.elim)
    refine yl_Types_joins_p119 ?_
    unfold yb_Types_joins_p119
    refine zW_t (by omega) ?_
    rw [ycv_T hT]
    refine zW_Ie (zc_s.trans (h_kind hT ix)) ?_
    rw [f1, yfb_7 o1, ka]
    refine zW_t rfl ?_
    rw [ycv_T hT]
    refine zW_Qe (zc_s.trans (h_label hT ix s1 (by omega) (by omega))) ?_
    rw [ycv_T hT]
    refine zW_Qe (zc_s.trans (h_label hT iy s2 (by omega) (by omega))) ?_
    rw [pa1, pb1, ycv_str pa2.2.1]
    refine zW_Ie (zc_s.trans (y_equals hC pa2 pb2 (by omega))) ?_
    by_cases e : lb ((sp a).1 + i) = lb ((sp b).1 + i)
    · rw [if_pos e]
      refine zW_f (by decide) (zW_G (by omega) (zW_let ?_))
      rw [show (i : Int) + 1 = ((i + 1 : Nat) : Int) by omega]
      exact ih (i + 1) (by omega) (fun j hj => by
        by_cases q : j = i
        · rw [q]; exact e
        · exact hp j (by omega))
    · rw [if_neg e]
      exact zW_t rfl (zW_rN rfl (h0 ⟨i, by omega, hp, e⟩))
end HJoins
