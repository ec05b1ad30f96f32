set_option maxRecDepth 100000
/-! THE HOUSE'S TYPES: two become one -/
def ylv (b : Yfl) (l : Nat) : Yfl := (b.1, b.2.1, b.2.2.1, l)
abbrev lvl (b : Yfl) : Nat := b.2.2.2
/-- what y is behind it -/
def ybec (ba bb : Yfl) : Yfl := (bb.1, (bb.2.1 || ba.2.1), bb.2.2.1, min (lvl ba) (lvl bb))
def hWs (T : Nat → Nat) (H : YS) : TW → Prop
  | [] => True
  | q :: W => yA H (T 8) (W.length : Int) = ((4294967296 * q.1 + q.2 : Nat) : Int) ∧ hWs T H W
def hEs (T : Nat → Nat) (H : YS) (E : List Nat) : Prop := ∀ k : Nat, k < E.length → yA H (T 5) (k : Int) = ((E.getD k 0 : Nat) : Int)
/-- demands of equality at a place have gone down (as in the reference); those that are not looked at yet wait in E -/
def hJE (adm : Nat → Bool) (G : TG) (n : Nat) (E : List Nat) : Prop := ∀ z, z < n → G.1 z = z → (G.2 z).1 = true → (∃ t ∈ E, G.1 t = z) ∨ (zcl adm G z ∧ ∀ k, (G.2 z).2 = .inl (k + 2) → adm (3 * k + 1) = true)
section HLink
variable {B : Nat → Prop} {T : Nat → Nat} {ν : Hmp} {H H' H2 : YS} {C : YC} {d f k j n m x y a z t : Nat} {fs as fs' as' : List Nat} {v w i : Int} {Q : Option (Option ZV) → YS → Prop} {r s : Option Nat} {G G' : TG} {fl : Nat → Yfl} {sp : Nat → Nat × Nat} {lb : Nat → List Int} {N : TN} {b b' : Yfl} {W : TW} {E : List Nat} {adm : Nat → Bool}
abbrev Rz0 : Nat → Prop := fun _ => False
theorem ylv_OK (h : yfOK b) (hl : k ≤ 1048576) : yfOK (ylv b k) := ⟨h.1, hl⟩
theorem ybec_OK (h : yfOK b) (h' : yfOK b') : yfOK (ybec b b') := ⟨h'.1, by
  have : lvl b ≤ 1048576 := h.2
  show min (lvl b) (lvl b') ≤ _
  omega⟩
theorem hEs_eq (e : ∀ k : Nat, k < E.length → yA H' (T 5) (k : Int) = yA H (T 5) (k : Int)) (h : hEs T H E) : hEs T H' E := fun k hk => by rw [e k hk]; exact h k hk
theorem hEs_app (h : hEs T H E) (e : ∀ k : Nat, k < E.length → yA H' (T 5) (k : Int) = yA H (T 5) (k : Int)) (e2 : yA H' (T 5) (E.length : Int) = (y : Int)) : hEs T H' (E ++ [y]) := by
  intro k hk
  rw [List.length_append, List.length_singleton] at hk
  by_cases q : k = E.length
  · rw [q, e2, List.getD_eq_getElem?_getD, List.getElem?_append_right (Nat.le_refl _), Nat.sub_self]; rfl
  · rw [e k (by omega), List.getD_eq_getElem?_getD, List.getElem?_append_left (by omega), ← List.getD_eq_getElem?_getD]
    exact h k (by omega)
theorem hWs_eq : ∀ {W : TW}, (∀ i : Nat, i < W.length → yA H' (T 8) (i : Int) = yA H (T 8) (i : Int)) → hWs T H W → hWs T H' W
  | [], _, _ => trivial
  | q :: W, e, h => by
    refine ⟨?_, hWs_eq (fun i hi => e i (by rw [List.length_cons]; omega)) h.2⟩
    rw [e W.length (by rw [List.length_cons]; omega)]; exact h.1
theorem hWs_a (e : yA H' (T 8) = yA H (T 8)) (h : hWs T H W) : hWs T H' W := hWs_eq (fun i _ => by rw [e]) h
theorem hWs_push (hT : HtA T H) (h : hWs T H W) (hm : m = W.length) : hWs T (yput (yset H (T 8) (m : Int) ((4294967296 * x + y : Nat) : Int)) 1217 (T 0) v) ((x, y) :: W) := by
  subst hm
  refine ⟨congrFun (hset_s (H := H)) _ |>.trans (if_pos rfl), hWs_eq (fun i hi => ?_) h⟩
  exact (congrFun (hset_s (H := H)) _).trans (if_neg (by omega))
/-- a link: what it leaves -/
def HLn (T : Nat → Nat) (H : YS) (x y t : Nat) (b' : Yfl) (H' : YS) : Prop := hAg T [1216] [1, 3, 5] H H' ∧ (∀ z : Int, hfl T H' z = if z = (y : Int) then (yfb b' : Int) else hfl T H z) ∧ (∀ z : Int, hti T H' z = if z = (x : Int) then (y : Int) else hti T H z) ∧ (∀ k : Int, yA H' (T 5) k = if k = (t : Int) then (y : Int) else yA H (T 5) k) ∧ hin T H' 1216 = (t : Int) + 1
theorem h_link (hT : HtA T H) (hx : x < 60000) (hy : y < 60000) (hxy : x ≠ y) (fx : hfl T H x = (yfb b : Int)) (fy : hfl T H y = (yfb b' : Int)) (ob : yfOK b) (ob' : yfOK b') (ht : hin T H 1216 = (t : Int)) (ht' : t < 60000) : ∃ H', YL C (d + 1) 81 [zr (T 0), .inl (x : Int), .inl (y : Int)] H = some (some none, H') ∧ HLn T H x y t (ybec b b') H' := by
  have ix : 0 ≤ (x : Int) ∧ (x : Int) < 60000 := by omega
  have iy : 0 ≤ (y : Int) ∧ (y : Int) < 60000 := by omega
  have lx : lvl b ≤ 1048576 := ob.2
  have ly : lvl b' ≤ 1048576 := ob'.2
  generalize e1 : yset H (T 3) (x : Int) (y : Int) = H1
  have T1 : HtA T H1 := by rw [← e1]; exact hT
  have a1 : hAg T [1216] [1, 3, 5] H H1 := by rw [← e1]; exact hAg_set (by decide) hAg_refl
  have g1 : yA H1 (T 1) = yA H (T 1) := by rw [← e1]; exact hset_a hT (by decide) (by decide) (by decide)
  have gx1 : hfl T H1 (x : Int) = (yfb b : Int) := (congrFun g1 _).trans fx
  have gy1 : hfl T H1 (y : Int) = (yfb b' : Int) := (congrFun g1 _).trans fy
  have t1 : yA H1 (T 3) = fun z => if z = (x : Int) then (y : Int) else yA H (T 3) z := by rw [← e1]; exact hset_s
  have s1 : yA H1 (T 5) = yA H (T 5) := by rw [← e1]; exact hset_a hT (by decide) (by decide) (by decide)
  generalize e2 : yset H1 (T 1) (y : Int) (yfb (ylv b' (min (lvl b) (lvl b')))) = H2
  have T2 : HtA T H2 := by rw [← e2]; exact T1
  have a2 : hAg T [1216] [1, 3, 5] H H2 := by rw [← e2]; exact hAg_set (by decide) a1
  have g2 : yA H2 (T 1) = fun z => if z = (y : Int) then (yfb (ylv b' (min (lvl b) (lvl b'))) : Int) else yA H (T 1) z := by
    rw [← e2, hset_s, g1]
  have t2 : yA H2 (T 3) = yA H1 (T 3) := by rw [← e2]; exact hset_a T1 (by decide) (by decide) (by decide)
  have s2 : yA H2 (T 5) = yA H1 (T 5) := by rw [← e2]; exact hset_a T1 (by decide) (by decide) (by decide)
  have o2 : yfOK (ylv b' (min (lvl b) (lvl b'))) := ylv_OK ob' (by omega)
  generalize e3 : yset H2 (T 1) (y : Int) (yfb (ybec b b')) = H3
  have T3 : HtA T H3 := by rw [← e3]; exact T2
  have a3 : hAg T [1216] [1, 3, 5] H H3 := by rw [← e3]; exact hAg_set (by decide) a2
  have g3 : yA H3 (T 1) = fun z => if z = (y : Int) then (yfb (ybec b b') : Int) else yA H (T 1) z := by
    rw [← e3, hset_s, g2]
    funext z
    dsimp only
    by_cases q : z = (y : Int)
    · rw [if_pos q, if_pos q]
    · rw [if_neg q, if_neg q, if_neg q]
  have t3 : yA H3 (T 3) = yA H2 (T 3) := by rw [← e3]; exact hset_a T2 (by decide) (by decide) (by decide)
  have s3 : yA H3 (T 5) = yA H2 (T 5) := by rw [← e3]; exact hset_a T2 (by decide) (by decide) (by decide)
  have f3 : hin T H3 1216 = (t : Int) := by rw [← e3, ← e2, ← e1]; exact ht
  generalize e4 : yset H3 (T 5) (t : Int) (y : Int) = H4
  have T4 : HtA T H4 := by rw [← e4]; exact T3
  have a4 : hAg T [1216] [1, 3, 5] H H4 := by rw [← e4]; exact hAg_set (by decide) a3
  have f4 : hin T H4 1216 = (t : Int) := by rw [← e4]; exact f3
  refine ⟨yput H4 1216 (T 0) ((t : Int) + 1), zW_get (yl_Types_link ?_), hAg_put (by decide) a4, fun z => ?_, fun z => ?_, fun z => ?_, hput_s⟩
  · unfold yb_Types_link
    refine zW_hw 3 hT (by decide) ix ?_
    rw [e1, ycv_T T1]
    refine zW_Ie (zc_s.trans (h_level T1 ix)) ?_
    rw [gx1, yfb_l ob, ycv_T T1]
    refine zW_Ie (zc_s.trans (h_level T1 iy)) ?_
    rw [gy1, yfb_l ob']
    refine zW_Ie (zc_s.trans y_min) ?_
    have em : (if (b.2.2.2 : Int) ≤ (b'.2.2.2 : Int) then (b.2.2.2 : Int) else (b'.2.2.2 : Int)) = ((min (lvl b) (lvl b') : Nat) : Int) := by
      show (if (lvl b : Int) ≤ (lvl b' : Int) then (lvl b : Int) else (lvl b' : Int)) = _
      split <;> omega
    rw [em, ycv_T T1]
    refine zW_Ve (zc_s.trans (h_levelTo T1 iy)) ?_
    rw [gy1, yfb_to ob' (by omega), show yset H1 (T 1) (y : Int) (yfb (b'.1, b'.2.1, b'.2.2.1, min (lvl b) (lvl b'))) = H2 from e2]
    refine zW_hR 1 T2 (by decide) (zW_ha T2 (by decide) iy (zW_rd 1 T2 (by decide) ix ?_))
    rw [show yA H2 (T 1) (y : Int) = _ from (congrFun g2 _).trans (if_pos rfl), show yA H2 (T 1) (x : Int) = (yfb b : Int) from ((congrFun g2 _).trans (if_neg (by omega))).trans fx, yfb_oe o2 ob]
    refine zW_hs T2 (by decide) iy ?_
    rw [show yset H2 (T 1) (y : Int) (yfb ((ylv b' (min (lvl b) (lvl b'))).1, (ylv b' (min (lvl b) (lvl b'))).2.1 || b.2.1, (ylv b' (min (lvl b) (lvl b'))).2.2.1, (ylv b' (min (lvl b) (lvl b'))).2.2.2)) = H3 from e3]
    refine zW_hR 5 T3 (by decide) (zW_hI T3 (by decide) ?_)
    rw [f3]
    refine zW_hs T3 (by decide) (by show _ ∧ _ < (60000 : Int); omega) ?_
    rw [e4]
    refine zW_hI T4 (by decide) ?_
    rw [f4]
    exact zW_G (by omega) (zW_hp T4 (by decide) (zW_rV ⟨rfl, rfl⟩))
  · show hfl T H4 z = _
    rw [show hfl T H4 = yA H3 (T 1) by rw [← e4]; exact hset_a T3 (by decide) (by decide) (by decide), g3]
  · show hti T H4 z = _
    rw [show hti T H4 = yA H3 (T 3) by rw [← e4]; exact hset_a T3 (by decide) (by decide) (by decide), t3, t2, t1]
  · show yA H4 (T 5) z = _
    rw [← e4, hset_s, s3, s2, s1]
/-- the graph behind a link -/
theorem HG_link (hT : HtA T H) (h : HG B T ν H G n m fl sp lb Rz0) (hx : x < n) (hy : y < n) (rx : G.1 x = x) (ry : G.1 y = y) (hxy : x ≠ y) (ha : hAg T fs as H H') (hf : ∀ f ∈ fs, f ∈ [1216]) (hs : ∀ a ∈ as, a ∈ [1, 3, 5]) (e1 : ∀ z : Nat, z < n → hfl T H' z = if z = y then (yfb b' : Int) else hfl T H z) (e3 : ∀ z : Nat, z < n → hti T H' z = if z = x then (y : Int) else hti T H z) (ob : yfOK b') (hN : HNode T ν H lb N b' (sp y).1 (sp y).2 y) : HG B T ν H' (tlink G x y N) n m (fup fl y b') sp lb Rz0 := by
  have sb : ∀ a ∈ as, a ∈ tRw ∧ a ≠ 18 := fun a q => (by decide : ∀ a ∈ [1, 3, 5], a ∈ tRw ∧ a ≠ 18) a (hs a q)
  have nn : ∀ k ∈ [2, 6, 7], k ∉ as := fun k hk q => (by decide : ∀ k ∈ [2, 6, 7], k ∉ [1, 3, 5]) k hk (hs k q)
  have e : ∀ k ∈ [2, 6], yA H' (T k) = yA H (T k) := fun k hk => hAg_a hT ((by decide : ∀ k ∈ [2, 6], k ∈ tRw) k hk) (fun a q => (sb a q).1) (nn k ((by decide : ∀ k ∈ [2, 6], k ∈ [2, 6, 7]) k hk)) ha
  have e2 : hsp T H' = hsp T H := e 2 (by decide)
  have e6 : hpt T H' = hpt T H := e 6 (by decide)
  have e7 : hla T H' = hla T H := hAg_b (nn 7 (by decide)) ha
  have ff : ∀ g, g ≠ 1216 → hin T H' g = hin T H g := fun g hg => hAg_f (fun q => hg (by simpa using hf g q)) ha
  have rooty := (HG_root h hy).mp ry
  have rt := fun z hz => HG_root h (x := z) hz
  obtain ⟨g1, g2, g3, g4, g5, g6, g7, g8⟩ := h
  refine ⟨by rw [ff _ (by decide), ff _ (by decide)]; exact g1, ⟨?_, fun z hz => ?_⟩, fun z hz => ?_, g4, fun j hj hz => ?_, fun z hz hr _ => ?_, fun z q => q.elim, fun _ _ _ _ _ _ q => q.elim⟩
  · refine LkO_eq (LkO_link (lk' := fun z => if z = x then some y else hlk T H z) g2.1 hx hy rx ry hxy (fun z => rfl)) (fun z hz => ?_) (fun z hz => rfl)
    unfold hlk
    rw [e3 z hz]
    by_cases q : z = x
    · rw [if_pos q, if_pos q, if_pos (by omega)]; rfl
    · rw [if_neg q, if_neg q]
  · rw [e3 z hz]
    split
    · omega
    · exact g2.2 z hz
  · rw [e1 z hz, e2]
    by_cases q : z = y
    · rw [if_pos q, show fup fl y b' z = b' from if_pos q]
      exact ⟨rfl, ob, (g3 z hz).2.2⟩
    · rw [if_neg q, show fup fl y b' z = fl z from if_neg q]
      exact g3 z hz
  · obtain ⟨q1, s, q2, q3, q4⟩ := g5 j hj (fun z hz q => q.elim)
    rw [e6, e7]
    exact ⟨q1, s, q2, hAg_StrY hT sb ha q3, q4⟩
  · have hr : (if G.1 z = x then y else G.1 z) = z := hr
    have zx : z ≠ x := by
      intro q
      rw [q, rx, if_pos rfl] at hr
      exact hxy hr.symm
    show HNode T ν H' lb (if z = y then N else G.2 z) (fup fl y b' z) (sp z).1 (sp z).2 z
    by_cases q : z = y
    · rw [if_pos q, show fup fl y b' z = b' from if_pos q, q]
      exact HNode_eq (by rw [e3 y hy, if_neg (fun q => hxy q.symm)]) (by rw [ff _ (by decide)]; exact Int.le_refl _) (fun i _ => by rw [e6]) hN
    · rw [if_neg q, show fup fl y b' z = fl z from if_neg q]
      have hr : G.1 z = z := by
        split at hr
        · exact absurd hr.symm q
        · exact hr
      exact HNode_eq (by rw [e3 z hz, if_neg zx]) (by rw [ff _ (by decide)]; exact Int.le_refl _) (fun i _ => by rw [e6]) (g6 z hz hr (fun q => q))
/-- another demand, another level: the node -/
theorem HNode_b (h : HNode T ν H lb N b a k x) {e : Bool} {l : Nat} : HNode T ν H lb (N.1 || e, N.2) (b.1, (b.2.1 || e), b.2.2.1, l) a k x := by
  rcases h with ⟨h1, h2, h3, h4⟩ | ⟨h1, h2, f, h3, h4, h5⟩ | ⟨h1, c, h2, h3, h4, h5⟩ | ⟨h1, h2, h3, h4⟩ | ⟨h1, h2, h3, h4⟩
  · exact Or.inl ⟨h1, h2, h3, by rw [h4]⟩
  · exact Or.inr (Or.inl ⟨h1, h2, f, h3, h4, by rw [h5]; show (_ || _ || _, _) = _; rw [Bool.or_assoc]⟩)
  · exact Or.inr (Or.inr (Or.inl ⟨h1, c, h2, h3, h4, by rw [h5]⟩))
  · exact Or.inr (Or.inr (Or.inr (Or.inl ⟨h1, h2, h3, by rw [h4]⟩)))
  · exact Or.inr (Or.inr (Or.inr (Or.inr ⟨h1, h2, by rw [h3], h4⟩)))
theorem HNode_e (h : HNode T ν H lb N b a k x) (hb : b.1 ≠ 5) : N.1 = b.2.1 := by
  rcases h with ⟨h1, h2, h3, h4⟩ | ⟨h1, _⟩ | ⟨h1, c, h2, h3, h4, h5⟩ | ⟨h1, h2, h3, h4⟩ | ⟨h1, h2, h3, h4⟩
  · rw [h4]
  · exact absurd h1 hb
  · rw [h5]
  · rw [h4]
  · rw [h3]
theorem hJE_link (h : hJE adm G n E) (hy : y < n) (ry : G.1 y = y) (hxy : x ≠ y) (hN : N.1 = ((G.2 x).1 || (G.2 y).1)) {E' : List Nat} (hE : ∀ t ∈ E, t ∈ E') (hyE : y ∈ E') : hJE adm (tlink G x y N) n E' := by
  have fe : ∀ c, (G.2 (G.1 c)).1 = true → ((tlink G x y N).2 ((tlink G x y N).1 c)).1 = true := by
    intro c hc
    obtain ⟨N1, N2⟩ := N
    have hN : N1 = _ := hN
    subst hN
    exact tlink_fl hc
  have r1 : (tlink G x y N).1 y = y := by
    show (if G.1 y = x then y else G.1 y) = y
    rw [ry, if_neg (fun q => hxy q.symm)]
  intro z hz hr he
  by_cases q : z = y
  · exact Or.inl ⟨y, hyE, by rw [r1, q]⟩
  · have e2 : (tlink G x y N).2 z = G.2 z := if_neg q
    have hr' : (if G.1 z = x then y else G.1 z) = z := hr
    have hr2 : G.1 z = z ∧ z ≠ x := by
      split at hr'
      · exact absurd hr'.symm q
      · next w => exact ⟨hr', fun w2 => w (by rw [hr', w2])⟩
    rw [e2] at he
    rcases h z hz hr2.1 he with ⟨t, m1, m2⟩ | ⟨p1, p2⟩
    · refine Or.inl ⟨t, hE t m1, ?_⟩
      show (if G.1 t = x then y else G.1 t) = z
      rw [m2, if_neg hr2.2]
    · refine Or.inr ⟨fun lab loose kids hg => ?_, fun k hg => p2 k (by rw [← e2]; exact hg)⟩
      rw [e2] at hg
      obtain ⟨c1, c2⟩ := p1 lab loose kids hg
      exact ⟨c1, fun hl l c m => fe c (c2 hl l c m)⟩
end HLink
