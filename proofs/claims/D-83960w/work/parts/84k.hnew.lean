set_option maxRecDepth 100000
/-! THE HOUSE'S TYPES: a new node; what moving a root to a new place changes -/
section HNew
variable {B : Nat → Prop} {T : Nat → Nat} {ν : Hmp} {H H' H2 : YS} {C : YC} {d f k j n m x y a z t n0 a0 b0 : Nat} {fs as fs' as' : List Nat} {v w i : Int} {Q : Option (Option ZV) → YS → Prop} {r s : Option Nat} {G G' G0 : TG} {fl fl0 fl' : Nat → Yfl} {sp : Nat → Nat × Nat} {lb lb' : Nat → List Int} {N : TN} {b : Nat} {b' : Yfl} {W : TW} {E E' : List Nat} {adm : Nat → Bool} {K : Nat → Nat → Prop} {Rz : Nat → Prop}
/-- a new node -/
def HNd (T : Nat → Nat) (H : YS) (n m k : Nat) (b : Yfl) (w : Int) (H' : YS) : Prop := hAg T [1211, 1212] [1, 2, 3, 4] H H' ∧ (∀ z : Int, hfl T H' z = if z = (n : Int) then (yfb b : Int) else hfl T H z) ∧ (∀ z : Int, hsp T H' z = if z = (n : Int) then ((512 * m + k : Nat) : Int) else hsp T H z) ∧ (∀ z : Int, hti T H' z = if z = (n : Int) then w else hti T H z) ∧ (∀ z : Int, hmk T H' z = if z = (n : Int) then 0 else hmk T H z) ∧ hin T H' 1211 = (n : Int) + 1 ∧ hin T H' 1212 = ((m + k : Nat) : Int)
theorem h_node {kd l : Nat} {wh : Int} (hT : HtA T H) (hn : hin T H 1211 = (n : Int)) (hn' : n < 60000) (hm : hin T H 1212 = (m : Int)) (hm' : m + k ≤ 150000) (hk : k < 512) (hl : hin T H 1214 = (l : Int)) (hl' : l ≤ 1048576) (hkd : kd < 8) (hw : -1 ≤ wh ∧ wh ≤ 90000) : ∃ H', YL C d 52 [zr (T 0), .inl (kd : Int), .inl wh, .inl (k : Int)] H = some (some (some (.inl (n : Int))), H') ∧ HNd T H n m k (kd, false, false, l) (-2 - wh) H' := by
  have ix : 0 ≤ (n : Int) ∧ (n : Int) < 60000 := by omega
  generalize e1 : yput H 1211 (T 0) ((n : Int) + 1) = H1
  have T1 : HtA T H1 := by rw [← e1]; exact hT
  generalize e2 : yset H1 (T 1) (n : Int) (yfb (kd, false, false, l) : Int) = H2
  have T2 : HtA T H2 := by rw [← e2]; exact T1
  generalize e3 : yset H2 (T 2) (n : Int) ((512 * m + k : Nat) : Int) = H3
  have T3 : HtA T H3 := by rw [← e3]; exact T2
  generalize e4 : yset H3 (T 3) (n : Int) (-2 - wh) = H4
  have T4 : HtA T H4 := by rw [← e4]; exact T3
  generalize e5 : yset H4 (T 4) (n : Int) 0 = H5
  have T5 : HtA T H5 := by rw [← e5]; exact T4
  have i1 : hin T H1 1214 = (l : Int) := by rw [← e1]; exact (hput_f (f := 1211) (by decide)).trans hl
  have m2 : hin T H2 1212 = (m : Int) := (by rw [← e2, ← e1]; rfl : hin T H2 1212 = hin T (yput H 1211 (T 0) ((n : Int) + 1)) 1212).trans ((hput_f (by decide)).trans hm)
  have m5 : hin T H5 1212 = (m : Int) := by rw [← e5, ← e4, ← e3]; exact m2
  refine ⟨yput H5 1212 (T 0) ((m : Int) + k), zW_get (yl_Types_node ?_), hAg_put (by decide) ?_, fun z => ?_, fun z => ?_, fun z => ?_, fun z => ?_, ?_, ?_⟩
  · unfold yb_Types_node
    refine zW_hI hT (by decide) (zW_let (zW_hI hT (by decide) ?_))
    rw [hn]
    refine zW_G (by omega) (zW_hp hT (by decide) ?_)
    rw [e1]
    refine zW_hR 1 T1 (by decide) (zW_hI T1 (by decide) ?_)
    rw [i1, yfb_new hkd hl']
    refine zW_hs T1 (by decide) ix ?_
    rw [e2]
    refine zW_hR 2 T2 (by decide) (zW_hI T2 (by decide) ?_)
    rw [m2, yspan (by omega) hk]
    refine zW_hs T2 (by decide) ix ?_
    rw [e3]
    refine zW_hR 3 T3 (by decide) (zW_G (by omega) (zW_hs T3 (by decide) ix ?_))
    rw [e4]
    refine zW_hw 4 T4 (by decide) ix ?_
    rw [e5]
    refine zW_hI T5 (by decide) ?_
    rw [m5]
    exact zW_G (by omega) (zW_hp T5 (by decide) (zW_rI ⟨rfl, rfl⟩))
  · rw [← e5, ← e4, ← e3, ← e2, ← e1]
    exact hAg_set (by decide) (hAg_set (by decide) (hAg_set (by decide) (hAg_set (by decide) (hAg_put (by decide) hAg_refl))))
  · show yA H5 (T 1) z = _
    rw [← e5, hset_a T4 (by decide) (by decide) (by decide), ← e4, hset_a T3 (by decide) (by decide) (by decide), ← e3, hset_a T2 (by decide) (by decide) (by decide), ← e2, hset_s, ← e1]
    rfl
  · show yA H5 (T 2) z = _
    rw [← e5, hset_a T4 (by decide) (by decide) (by decide), ← e4, hset_a T3 (by decide) (by decide) (by decide), ← e3, hset_s, ← e2, hset_a T1 (by decide) (by decide) (by decide), ← e1]
    rfl
  · show yA H5 (T 3) z = _
    rw [← e5, hset_a T4 (by decide) (by decide) (by decide), ← e4, hset_s, ← e3, hset_a T2 (by decide) (by decide) (by decide), ← e2, hset_a T1 (by decide) (by decide) (by decide), ← e1]
    rfl
  · show yA H5 (T 4) z = _
    rw [← e5, hset_s, ← e4, hset_a T3 (by decide) (by decide) (by decide), ← e3, hset_a T2 (by decide) (by decide) (by decide), ← e2, hset_a T1 (by decide) (by decide) (by decide), ← e1]
    rfl
  · rw [hput_f (f := 1212) (by decide), ← e5, ← e4, ← e3, ← e2, ← e1]
    exact hput_s
  · rw [hput_s]; omega
/-- the graph with one more -/
theorem HG_new (hT : HtA T H) (h : HG B T ν H G n m fl sp lb Rz) (hn : n < 60000) (hm : m + k ≤ 150000) (hk : k < 512) (ha : hAg T fs as H H') (hf : ∀ f ∈ fs, f ∈ [1211, 1212, 1215, 1217, 1219, 1226, 1227]) (h19 : hin T H 1219 ≤ hin T H' 1219) (hs : ∀ a ∈ as, a ∈ [1, 2, 3, 4, 6, 7, 8, 9, 10, 28]) (hn1 : hin T H' 1211 = (n : Int) + 1) (hm1 : hin T H' 1212 = ((m + k : Nat) : Int)) (old : ∀ z : Nat, z < n → hfl T H' z = hfl T H z ∧ hsp T H' z = hsp T H z ∧ hti T H' z = hti T H z) (nfl : hfl T H' n = (yfb b' : Int)) (nsp : hsp T H' n = ((512 * m + k : Nat) : Int)) (ob : yfOK b') (oldp : ∀ p : Nat, p < m → hpt T H' p = hpt T H p ∧ hla T H' p = hla T H p) (hlb : ∀ p, p < m → lb' p = lb p) (ht : -100000 ≤ hti T H' n) (newp : ∀ q, q < k → (0 ≤ hpt T H' ((m + q : Nat) : Int) ∧ hpt T H' ((m + q : Nat) : Int) < n) ∧ ∃ s, hla T H' ((m + q : Nat) : Int) = some s ∧ StrY B H' s (lb' (m + q)) ∧ (lb' (m + q)).length ≤ 200) (hN : HNode T ν H' lb' N b' m k n) (hz : ∀ l c, (l, c) ∈ tkids N → ¬ Rz (G.1 c)) : HG B T ν H' (gAdd G n N) (n + 1) (m + k) (fup fl n b') (fup sp n (m, k)) lb' Rz := by
  have sb : ∀ a ∈ as, a ∈ tRw ∧ a ≠ 18 := fun a q => (by decide : ∀ a ∈ [1, 2, 3, 4, 6, 7, 8, 9, 10, 28], a ∈ tRw ∧ a ≠ 18) a (hs a q)
  have g1' : ∀ z, z < n → (gAdd G n N).1 z = G.1 z := fun z hz => if_neg (by omega)
  have g2' : ∀ z, z < n → (gAdd G n N).2 z = G.2 z := fun z hz => if_neg (by omega)
  have tn : hti T H' n < 0 := by
    rcases hN with ⟨_, _, h3, _⟩ | ⟨_, _, f, h3, _⟩ | ⟨_, c, h3, _⟩ | ⟨_, _, h3, _⟩ | ⟨_, h3, _⟩ <;> omega
  obtain ⟨g1, g2, g3, g4, g5, g6, g7, g8⟩ := h
  have spn : ∀ z, z < n → fup sp n (m, k) z = sp z := fun z hz => if_neg (by omega)
  have fln : ∀ z, z < n → fup fl n b' z = fl z := fun z hz => if_neg (by omega)
  have rzn : ¬ Rz n := fun q => by have := (g7 n q).1; omega
  refine ⟨⟨by rw [hn1]; omega, hm1, by omega, hm⟩, ⟨?_, fun z hz' => ?_⟩, fun z hz' => ?_, fun p q hpq hq => ?_, fun j hj hz' => ?_, fun z hz' hr hzz => ?_, fun z hzz => ?_, fun p q hp hr hrz hl => ?_⟩
  · refine LkO_new (LkO_eq g2.1 (fun z hz => ?_) g1') ?_ (if_pos rfl)
    · unfold hlk; rw [(old z hz).2.2]
    · unfold hlk; exact if_neg (by omega)
  · by_cases q : z = n
    · rw [q]; exact ht
    · rw [(old z (by omega)).2.2]; exact g2.2 z (by omega)
  · by_cases q : z = n
    · rw [q, nfl, nsp, show fup fl n b' n = b' from if_pos rfl, show fup sp n (m, k) n = (m, k) from if_pos rfl]
      exact ⟨rfl, ob, rfl, Nat.le_refl _, hk⟩
    · have hz2 : z < n := by omega
      rw [(old z hz2).1, (old z hz2).2.1, fln z hz2, spn z hz2]
      obtain ⟨a1, a2, a3, a4, a5⟩ := g3 z hz2
      exact ⟨a1, a2, a3, by omega, a5⟩
  · by_cases e : q = n
    · rw [e, show fup sp n (m, k) n = (m, k) from if_pos rfl, spn p (by omega)]
      exact (g3 p (by omega)).2.2.2.1
    · rw [spn p (by omega), spn q (by omega)]
      exact g4 p q hpq (by omega)
  · by_cases q : j < m
    · obtain ⟨q1, s, q2, q3, q4⟩ := g5 j q (fun z hz3 hzz h1 => by
        have := hz' z (by omega) hzz
        rw [spn z hz3] at this
        exact this h1)
      rw [(oldp j q).1, (oldp j q).2, hlb j q]
      exact ⟨by omega, s, q2, hAg_StrY hT sb ha q3, q4⟩
    · have e := newp (j - m) (by omega)
      rw [show m + (j - m) = j by omega] at e
      exact ⟨by omega, e.2⟩
  · by_cases q : z = n
    · subst q
      rw [show (gAdd G z N).2 z = N from if_pos rfl, show fup fl z b' z = b' from if_pos rfl, show fup sp z (m, k) z = (m, k) from if_pos rfl]
      exact hN
    · have hz2 : z < n := by omega
      rw [g1' z hz2] at hr
      rw [g2' z hz2, fln z hz2, spn z hz2]
      obtain ⟨a1, a2, a3, a4, a5⟩ := g3 z hz2
      have base := HNode_eq (H' := H') (by rw [(old z hz2).2.2]) h19 (fun i hi => (oldp _ (by omega)).1) (g6 z hz2 hr hzz)
      unfold HNode at base ⊢
      rcases base with w | w | w | w | ⟨w1, w2, w3, w4, w5⟩
      · exact Or.inl w
      · exact Or.inr (Or.inl w)
      · exact Or.inr (Or.inr (Or.inl w))
      · exact Or.inr (Or.inr (Or.inr (Or.inl w)))
      · refine Or.inr (Or.inr (Or.inr (Or.inr ⟨w1, w2, ?_, fun i j hij hj => ?_, fun i hi => ?_⟩)))
        · rw [w3]
          have : hkd T H' (fun i => lb ((sp z).1 + i)) (sp z).1 (sp z).2 = hkd T H' (fun i => lb' ((sp z).1 + i)) (sp z).1 (sp z).2 := List.map_congr_left fun i hi => by
            have := List.mem_range.mp hi
            show ((lb ((sp z).1 + i), _) : Ky × Nat) = (lb' ((sp z).1 + i), _)
            rw [hlb _ (by omega)]
          rw [this]
        · rw [hlb _ (by omega), hlb _ (by omega)]; exact w4 i j hij hj
        · rw [hlb _ (by omega)]; exact w5 i hi
  · obtain ⟨p1, p2, p3, p4⟩ := g7 z hzz
    exact ⟨by omega, by rw [g1' z p1]; exact p2, by rw [g2' z p1]; exact p3, by rw [(old z p1).2.2]; exact p4⟩
  · obtain ⟨l, hl⟩ := hl
    by_cases e : p = n
    · rw [e, show (gAdd G n N).2 n = N from if_pos rfl] at hl
      by_cases e2 : q < n
      · rw [g1' q e2]; exact hz l q hl
      · exact fun hq => by
          by_cases e3 : q = n
          · rw [e3, show (gAdd G n N).1 n = n from if_pos rfl] at hq; exact rzn hq
          · rw [show (gAdd G n N).1 q = G.1 q from if_neg e3] at hq
            exact hz l q hl hq
    · have hp2 : p < n := by omega
      rw [g2' p hp2] at hl
      rw [g1' p hp2] at hr
      by_cases e3 : q = n
      · rw [e3, show (gAdd G n N).1 n = n from if_pos rfl]; exact rzn
      · rw [show (gAdd G n N).1 q = G.1 q from if_neg e3]
        exact g8 p q hp2 hr hrz ⟨l, hl⟩
/-! a root y goes to a new place n: sums -/
theorem isum_one_eq {f g : Nat → Int} (hb : b < n) (h : ∀ z, z < n → z ≠ b → g z = f z) : isum g n + f b = isum f n + g b := by
  have h1 := isum_one (n := n) (x := b) (d := fun z => f z - g z) hb (fun z hz zx => by rw [h z hz zx]; omega)
  have h2 := isum_one (n := n) (x := b) (d := fun z => g z - f z) hb (fun z hz zx => by rw [h z hz zx]; omega)
  rw [isum_sub] at h1 h2
  omega
theorem isum_move {f g : Nat → Int} (hb : b < n) (h : ∀ z, z < n → z ≠ b → g z = f z) (hb0 : g b = 0) (hn : g n = f b) : isum g (n + 1) = isum f n := by
  have := isum_one_eq hb h
  simp only [isum]
  omega
/-- the root b of G has gone to the new place n -/
def tMv (G : TG) (n b : Nat) (G' : TG) : Prop := (∀ z, z < n → G'.1 z = if G.1 z = b then n else G.1 z) ∧ G'.1 n = n ∧ (∀ z, z < n → z ≠ b → G'.2 z = G.2 z) ∧ G'.2 n = G.2 b
theorem tMv_root (h : tMv G n b G') (hb : b < n) (rb : G.1 b = b) : (∀ z, z < n → z ≠ b → (G'.1 z = z ↔ G.1 z = z)) ∧ G'.1 b ≠ b := by
  refine ⟨fun z hz zb => ?_, ?_⟩
  · rw [h.1 z hz]
    split
    · next q => exact ⟨fun w => by omega, fun w => absurd (w.symm.trans q) zb⟩
    · exact Iff.rfl
  · rw [h.1 b hb, rb, if_pos rfl]; omega
theorem tMv_sums (h : tMv G n b G') (hb : b < n) (rb : G.1 b = b) : tPhi G' (n + 1) = tPhi G n ∧ tKN G' (n + 1) = tKN G n ∧ isum (tw G') (n + 1) = isum (tw G) n ∧ isum (fun z => tw G' z * tw G' z) (n + 1) = isum (fun z => tw G z * tw G z) n := by
  obtain ⟨r1, r2⟩ := tMv_root h hb rb
  obtain ⟨h1, h2, h3, h4⟩ := h
  have e1 : ∀ z, z < n → z ≠ b → tln G' z = tln G z ∧ tw G' z = tw G z := by
    intro z hz zb
    unfold tln tw
    rw [h3 z hz zb]
    have := r1 z hz zb
    rcases G.2 z with ⟨e, o | ⟨lab, _ | _, kids⟩⟩
    · exact ⟨rfl, rfl⟩
    · exact ⟨rfl, rfl⟩
    · by_cases q : G.1 z = z
      · have q' := this.mpr q
        simp only [q, q', if_true, and_self]
      · have q' : ¬ G'.1 z = z := fun w => q (this.mp w)
        simp only [q, q', if_false, and_self]
  have eb : tln G' b = 0 ∧ tw G' b = 0 := ⟨(tlo_no r2).2, tw_no r2⟩
  have en : tln G' n = tln G b ∧ tw G' n = tw G b := by rw [tln_at h2, tln_at rb, tw_at h2, tw_at rb, h4]; exact ⟨rfl, rfl⟩
  refine ⟨isum_move hb (fun z hz zb => ?_) ?_ ?_, isum_move hb (fun z hz zb => (e1 z hz zb).1) eb.1 en.1, isum_move hb (fun z hz zb => (e1 z hz zb).2) eb.2 en.2, isum_move hb (fun z hz zb => ?_) ?_ ?_⟩
  · rw [h3 z hz zb]
    by_cases q : G.1 z = z
    · rw [if_pos ((r1 z hz zb).mpr q), if_pos q]
    · rw [if_neg (fun w => q ((r1 z hz zb).mp w)), if_neg q]
  · exact if_neg r2
  · rw [if_pos h2, if_pos rb, h4]
  · rw [(e1 z hz zb).2]
  · rw [eb.2]; rfl
  · rw [en.2]
theorem tMv_roots (h : tMv G n b G') (hb : b < n) (rb : G.1 b = b) : troots G' (n + 1) ≤ troots G n := by
  obtain ⟨r1, r2⟩ := tMv_root h hb rb
  have h1 : troots G' (n + 1) ≤ troots G' n + 1 := by
    show cnt (fun z => G'.1 z = z) (n + 1) ≤ cnt (fun z => G'.1 z = z) n + 1
    simp only [cnt]
    split <;> omega
  have h2 : troots G' n < troots G n := cnt_lt (x := b) (fun z hz hq => by
    by_cases e : z = b
    · rw [e] at hq; exact absurd hq r2
    · exact (r1 z hz e).mp hq) hb r2 rb
  omega
theorem hY_move {m : Nat} (h : tMv G n b G') (hb : b < n) (rb : G.1 b = b) : hY m G' (n + 1) = hY m G n := by
  obtain ⟨-, s2, s3, s4⟩ := tMv_sums h hb rb
  unfold hY
  rw [s2, s3, s4]
/-- levels, the root moved -/
theorem hLv_move (hL : hLv K G0 n0 x y fl0 G n fl (E ++ [b])) (hn0 : n0 ≤ n) (hw : tWF G n) (h : tMv G n b G') (hb : b < n) (rb : G.1 b = b) (hEn : ∀ t ∈ E, t < n) (hE : ∀ t ∈ E, t ∈ E') (hnE : n ∈ E') (hE2 : ∀ t ∈ E', t ∈ E ∨ t = n) (f1 : ∀ z, z < n → z ≠ b → fl' z = fl z) (f2 : lvl (fl' n) = lvl (fl b)) (f3 : ∀ z, z < n0 → G0.1 z = z → ¬ tBel G0 x y z → fl' z = fl0 z) : hLv K G0 n0 x y fl0 G' (n + 1) fl' E' := by
  obtain ⟨l1, l2, l3, l4, l5⟩ := hL
  obtain ⟨r1, r2⟩ := tMv_root h hb rb
  obtain ⟨h1, h2, h3, h4⟩ := h
  have lv : ∀ c, c < n → lvl (fl' (G'.1 c)) = lvl (fl (G.1 c)) := by
    intro c hc
    rw [h1 c hc]
    split
    · next q => rw [f2, q]
    · next q => rw [f1 _ (hw.1 c hc).1 q]
  refine ⟨fun z hz hr => ?_, fun l p hp hlp => ?_, fun z hz => ?_, f3, fun t ht ht0 => ?_⟩
  · by_cases e : z = n
    · rw [e]; exact Or.inl ⟨n, hnE, h2⟩
    · have hz' : z < n := by omega
      have zb : z ≠ b := fun q => r2 (by rw [← q]; exact hr)
      have hr' := (r1 z hz' zb).mp hr
      rcases l1 z hz' hr' with ⟨t, m1, m2⟩ | w
      · rcases List.mem_append.mp m1 with m1 | m1
        · refine Or.inl ⟨t, hE t m1, ?_⟩
          rw [h1 t (hEn t m1), m2, if_neg zb]
        · have : t = b := by simpa using m1
          rw [this, rb] at m2
          exact absurd m2.symm zb
      · refine Or.inr (fun l c mc => ?_)
        rw [h3 z hz' zb] at mc
        have hc : c < n := by
          rcases hg : G.2 z with ⟨e0, o | ⟨lab, loose, kids⟩⟩
          · rw [hg] at mc; exact absurd mc List.not_mem_nil
          · rw [hg] at mc; exact (hw.2 z hz' hr' _ _ _ _ hg).2 l c mc
        rw [lv c hc, f1 z hz' zb]
        exact w l c mc
  · rw [lv p (by omega)] at hlp
    exact l2 l p hp hlp
  · by_cases e : z = n
    · obtain ⟨p, p1, p2⟩ := l3 b hb
      refine ⟨p, p1, ?_⟩
      rw [e, h2, h1 p (by omega), p2, rb, if_pos rfl]
    · obtain ⟨p, p1, p2⟩ := l3 z (by omega)
      refine ⟨p, p1, ?_⟩
      rw [h1 p (by omega), h1 z (by omega), p2]
  · rcases hE2 t ht with q | q
    · exact l5 t (List.mem_append_left _ q) ht0
    · omega
end HNew
