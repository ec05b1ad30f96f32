set_option maxRecDepth 100000
/-! LISTS UNDER WAY: made, lengthened, read, shortened -/
def okG (θ : Gt) : Prop := gk θ < 72 ∨ (101 ≤ gk θ ∧ gk θ ≤ 106)
section YLst
variable {C : YC} {B P O : Nat → Prop} {X : Nat → Nat} {t : List Int} {Γ : Gm} {H H' : YS} {σ σ1 : Ps} {η η1 : Et} {M : List (Gt × Option Nat)} {g h g' h' : Int} {a e c s d dp n cap N : Nat} {F : List (List Int × Int × Int)} {Q : Option (Option ZV) → YS → Prop} {r : (Int × Nat) ⊕ (Gt × Ps)} {l : List Gt} {θ : Gt} {w : Option Nat} {L : List (Option Nat)}
theorem yokE_72 : ∀ k, k < 72 → yokE 1005 k = true := by decide +kernel
theorem yokE_20 : yokE 1005 2021 = true ∧ yokE 1005 2026 = true := by decide +kernel
theorem YO_ok {G : Nat → Prop} (hy : YO C B H θ G w) (ok : okG θ) : ∀ x, w = some x → x < ynx H ∧ yokE 1005 (yK H x) = true := by
  rintro x rfl
  cases θ with
  | leaf p => exact hy.elim
  | branch k l r =>
    have hk : gk (.branch k l r) = k := rfl
    unfold okG at ok
    rw [hk] at ok
    rw [YO_br] at hy
    unfold hoA at hy
    by_cases k1 : k < 100
    · rw [if_pos k1] at hy
      obtain ⟨a, ha, -, h2, h3, -⟩ := hy
      cases ha
      exact ⟨h2, by rw [h3]; exact yokE_72 k (by omega)⟩
    rw [if_neg k1, if_neg (by omega)] at hy
    by_cases k2 : k = 104
    · rw [if_pos k2] at hy
      obtain ⟨a, e, cap, xs, ha, -, A, -⟩ := hy
      cases ha
      exact ⟨A.1, by rw [A.2.1]; exact yokE_72 5 (by decide)⟩
    rw [if_neg k2, if_neg (by omega), if_neg (by omega), if_pos (by omega)] at hy
    obtain ⟨a, ha, h1, h2⟩ := hy
    cases ha
    refine ⟨h1, ?_⟩
    have hk : k = 101 ∨ k = 102 ∨ k = 103 ∨ k = 105 ∨ k = 106 := by omega
    rcases hk with rfl | rfl | rfl | rfl | rfl
    · rcases h2.2.1 with q | q
      · rw [q]; exact yokE_72 21 (by decide)
      · rw [q]; exact yokE_20.1
    · rcases h2.1 with q | q
      · rw [q]; exact yokE_72 26 (by decide)
      · rw [q]; exact yokE_20.2
    · rw [h2.1]; exact yokE_72 22 (by decide)
    · rw [h2.1]; exact yokE_72 27 (by decide)
    · rw [h2.1]; exact yokE_72 7 (by decide)
/-- a list at the front -/
theorem Lv_lst (hL : Lv C B N O H ((oC cap l, w) :: M)) : ∃ (a e : Nat) (xs : List (Option Nat)) (F G F1 : Nat → Prop), w = some a ∧ (∀ x, F x → N ≤ x ∧ x < ynx H ∧ ¬ O x) ∧ (∀ x, G x → F x) ∧ (∀ x, F1 x → F x) ∧ (∀ x, G x → ¬ F1 x) ∧ G a ∧ AlY H a e cap xs ∧ (yK H e = 1005 → G e) ∧ xs.length = l.length ∧ sep (fun x => G x ∧ x ≠ a ∧ x ≠ e) (List.zip (l.map (YO C B H)) xs) ∧ sep F1 (M.map fun q => (YO C B H q.1, q.2)) := by
  obtain ⟨F, h1, G, F1, g1, g2, g3, g4, g5⟩ := hL
  have g4 : YO C B H (gn 104 [[(cap : Int)]] l) G w := g4
  rw [YO_gn] at g4
  unfold hoA at g4
  rw [if_neg (by decide), if_neg (by decide), if_pos rfl] at g4
  obtain ⟨a, e, cap', xs, ha, q1, q2, q3, q4, q5, q6⟩ := g4
  have hc : cap' = cap := by
    rcases q4 with q | q
    · cases q
    · have := (List.cons.inj (List.cons.inj q).1).1
      omega
  subst hc
  rw [List.length_map] at q5
  rw [List.map_map] at q6
  exact ⟨a, e, xs, F, G, F1, ha, h1, g1, g2, g3, q1, q2, q3, q5, q6, g5⟩
theorem YO_lst {G : Nat → Prop} (h1 : G a) (A : AlY H a e cap L) (he : yK H e = 1005 → G e) (hl : L.length = l.length) (hs : sep (fun x => G x ∧ x ≠ a ∧ x ≠ e) (List.zip (l.map (YO C B H)) L)) : YO C B H (oC cap l) G (some a) := by
  unfold oC
  rw [YO_gn]
  unfold hoA
  rw [if_neg (by decide), if_neg (by decide), if_pos rfl]
  refine ⟨a, e, cap, L, rfl, h1, A, he, Or.inr rfl, by rw [List.length_map]; exact hl, ?_⟩
  rw [List.map_map]
  exact hs
theorem SS_O (S : SS C B X t Γ H σ η M g h) : ∀ x, eO η x → x < ynx H := S.1.1.1.1
/-- the room is of no matter any more -/
theorem YO_oL {G : Nat → Prop} (hy : YO C B H (oC cap l) G w) : YO C B H (oL l) G w := by
  unfold oC at hy
  unfold oL
  rw [YO_gn] at hy ⊢
  unfold hoA at hy ⊢
  rw [if_neg (by decide), if_neg (by decide), if_pos rfl] at hy ⊢
  obtain ⟨a, e, cap, xs, h1, h2, h3, h4, -, h6⟩ := hy
  exact ⟨a, e, cap, xs, h1, h2, h3, h4, Or.inl rfl, h6⟩
theorem SS_oL (S : SS C B X t Γ H σ η ((oC cap l, w) :: M) g h) : SS C B X t Γ H σ η ((oL l, w) :: M) g h := by
  refine ⟨S.1, ?_, S.2.2⟩
  obtain ⟨F, h1, G, F1, g1, g2, g3, g4, g5⟩ := S.2.1
  exact ⟨F, h1, G, F1, g1, g2, g3, YO_oL g4, g5⟩
theorem zip_ex (hx : yEx P c s H H') (hi : Im B P H) : ∀ (l : List Gt) (L : List (Option Nat)) (F : Nat → Prop), (∀ x, F x → ¬ P x) → sep F (List.zip (l.map (YO C B H)) L) → sep F (List.zip (l.map (YO C B H')) L) := by
  intro l
  induction l with
  | nil => intro _ _ _ _; trivial
  | cons y l ih =>
    intro L F hF h
    cases L with
    | nil => trivial
    | cons z L =>
      obtain ⟨G, F2, g1, g2, g3, g4, g5⟩ := h
      exact ⟨G, F2, g1, g2, g3, YO_ex hx hi y G _ (fun x q => hF x (g1 x q)) g4, ih L F2 (fun x q => hF x (g2 x q)) g5⟩
theorem zip_snoc : ∀ {l : List Gt} {L : List (Option Nat)}, L.length = l.length → List.zip ((l ++ [θ]).map (YO C B H)) (L ++ [w]) = List.zip (l.map (YO C B H)) L ++ [(YO C B H θ, w)] := by
  intro l L hl
  rw [List.map_append, List.zip_append (by rw [List.length_map]; exact hl.symm)]; rfl
/-- a new list; with room -/
theorem zW_alnew {k : Option Nat → YS → ZR YS} (hd : 4 ≤ d) (S : SS C B X t Γ H σ η M g h) (hk : ∀ H1 a, SS C B X t Γ H1 σ η ((oC 0 [], some a) :: M) (g + 1) (h + 3) → zW (k (some a) H1) Q) : zW (ynew 5 3 H fun r h1 => zV (ycs (YL C) d 503 r [] h1) fun h2 => k r h2) Q := by
  obtain ⟨d, rfl⟩ : ∃ e, d = e + 3 := ⟨d - 3, by omega⟩
  have S1 := SS_new (kd := 5) (n := 3) (p := [1502, 0]) S (by decide) ⟨by show yI _ 1502 _ = 0; rw [ymk_I, if_pos rfl], trivial⟩
  refine zW_new ?_
  rw [if_neg (by decide)]
  generalize ymk H 5 0 3 = H1 at S1 ⊢
  generalize ynx H = a at S1 ⊢
  obtain ⟨a', q0, q1, q2, q3, q4, q5⟩ := Lv_at (by decide) S1.2.1
  cases q0
  rw [ycs_s]
  refine zW_V (P := fun H2 => ∃ e, AlY H2 a e 0 [] ∧ yK H2 e = 3005 ∧ yEx (fun x => x = a) 0 0 H1 H2 ∧ ynx H2 = ynx H1) (T := fun _ => False) (zW_c (zW_mono (y_alInit (d := d) (SS_E S1) q1 q2 q5.1) (fun o H2 w => by rw [w.1]; exact w.2))) ?_ (fun _ w => w.elim)
  rintro H2 ⟨e, A, k5, ex, hn⟩
  have im := Im_1 (B := B) q2 ⟨by decide, by decide, by decide, by decide, by decide, by decide⟩
  refine hk H2 a (SS_mono (SS_loc S1 ex im (fun x _ q => by rw [q]; exact ⟨q3, q4⟩) ?_) (by omega) (by omega))
  obtain ⟨F, h1, G, F1, g1, g2, g3, g4, g5⟩ := S1.2.1
  have ga : G a := by
    have g4 : YO C B H1 (gn 5 [[1502, 0]] []) G (some a) := g4
    rw [YO_gn] at g4
    unfold hoA at g4
    rw [if_pos (by decide)] at g4
    obtain ⟨x, hx, q, -⟩ := g4
    cases hx
    exact q
  exact ⟨F, fun x q => by have := h1 x q; rw [hn]; exact this, G, F1, g1, g2, g3, YO_lst ga A (fun q => by omega) rfl trivial, sep_ex ex im M F1 (fun x q w => g3 a ga (w ▸ q)) g5⟩
theorem y_alInitN {n : Nat} (ha : a < ynx H) (hk : yK H a = 5) (hc : yI H 1502 a = 0) (hE : CE C H) (hn : n ≤ 10000000) : zW (YL C (d + 2) 571 [zr a, .inl (n : Int)] H) (fun o H1 => o = some none ∧ ∃ e, AlY H1 a e n [] ∧ (yK H1 e = 1005 → ynx H ≤ e) ∧ yEx (fun x => x = a) 1 n H H1) := by
  obtain ⟨e, e1, e2, e3, e4⟩ := hE 15 (Or.inr rfl)
  refine yl_ArrayList_init_2 ?_
  unfold yb_ArrayList_init_2
  rw [ycs_s]
  have i0 : YL C (d + 1) 753 [zr a] H = some (some none, yput H 1500 a 0) := by
    refine zW_get (yl_AbstractList_init ?_)
    unfold yb_AbstractList_init
    rw [ycs_s]
    have i1 : YL C d 887 [zr a] H = some (some none, H) := by
      refine zW_get (yl_AbstractCollection_init ?_)
      unfold yb_AbstractCollection_init
      exact zW_nn (zW_rV ⟨rfl, rfl⟩)
    exact zW_Ve i1 (zW_pI hk (by decide) rfl (zW_rV ⟨rfl, rfl⟩))
  have c0 : ∀ v, yI (yput H 1500 a v) 1502 a = 0 := fun v => (yput_f (by decide)).trans hc
  have ex0 : yEx (fun x => x = a) 0 0 H (yput H 1500 a 0) := yEx_put yEx_refl (fun _ => rfl)
  have c00 := c0 0
  refine zW_Ve i0 (zW_if (fun y => zW_if (fun y2 => ?_) (fun y2 => by omega)) (fun y => ?_))
  · have hn0 : n = 0 := by omega
    subst hn0
    refine zW_svR ?_
    rw [e1]
    refine zW_pR hk (by decide) (zW_rV ⟨rfl, e, ⟨ha, hk, yputR_at, c00, ?_, e2, Or.inr ⟨e3, rfl⟩, e4, Nat.le_refl _, fun k q => absurd q (Nat.not_lt_zero k), fun x q => nomatch q⟩, fun q => ?_, yEx_mono (yEx_putR ex0 (fun _ => rfl)) (fun _ _ z => z) (by omega) (by omega)⟩)
    · rintro rfl; omega
    · have : yK H e = 1005 := q
      omega
  · refine zW_na (by omega) ?_
    rw [show ((n : Int).toNat) = n from rfl]
    have hka : yK (ymk (yput H 1500 a 0) (1000 + 5) (n : Int) n) a = 5 := by
      rw [ymk_K, if_neg (by show a ≠ ynx H; omega)]; exact hk
    refine zW_pR hka (by decide) (zW_rV ⟨rfl, ynx H, ⟨?_, hka, yputR_at, ?_, by omega, by show ynx H < ynx H + 1; omega, Or.inl ?_, ?_, Nat.zero_le _, fun k q => absurd q (Nat.not_lt_zero k), fun x q => nomatch q⟩, fun _ => Nat.le_refl _, ?_⟩)
    · show a < ynx H + 1; omega
    · show (if a = ynx H then 0 else yI (yput H 1500 a 0) 1502 a) = 0
      rw [if_neg (by omega)]; exact c00
    · show (if ynx H = ynx H then 1005 else _) = 1005
      rw [if_pos rfl]
    · show (if ynx H = ynx H then (n : Int) else _) = n
      rw [if_pos rfl]
    · exact yEx_mono (yEx_putR (yEx_mk ex0) (fun _ => rfl)) (fun _ _ z => z) (by omega) (by omega)
theorem zW_alnewN {n : Nat} {k : Option Nat → YS → ZR YS} (hd : 4 ≤ d) (hn : n ≤ 10000000) (S : SS C B X t Γ H σ η M g h) (hk : ∀ H1 a, SS C B X t Γ H1 σ η ((oC n [], some a) :: M) (g + 2) (h + 3 + n) → zW (k (some a) H1) Q) : zW (ynew 5 3 H fun r h1 => zV (ycs (YL C) d 571 r [.inl (n : Int)] h1) fun h2 => k r h2) Q := by
  obtain ⟨d, rfl⟩ : ∃ e, d = e + 3 := ⟨d - 3, by omega⟩
  have S1 := SS_new (kd := 5) (n := 3) (p := [1502, 0]) S (by decide) ⟨by show yI _ 1502 _ = 0; rw [ymk_I, if_pos rfl], trivial⟩
  refine zW_new ?_
  rw [if_neg (by decide)]
  generalize ymk H 5 0 3 = H1 at S1 ⊢
  generalize ynx H = a at S1 ⊢
  obtain ⟨a', q0, q1, q2, q3, q4, q5⟩ := Lv_at (by decide) S1.2.1
  cases q0
  rw [ycs_s]
  refine zW_V (P := fun H2 => ∃ e, AlY H2 a e n [] ∧ (yK H2 e = 1005 → ynx H1 ≤ e) ∧ yEx (fun x => x = a) 1 n H1 H2) (T := fun _ => False) (zW_c (zW_mono (y_alInitN (d := d) q1 q2 q5.1 (SS_E S1) hn) (fun o H2 w => by rw [w.1]; exact w.2))) ?_ (fun _ w => w.elim)
  rintro H2 ⟨e, A, k5, ex⟩
  have im := Im_1 (B := B) q2 ⟨by decide, by decide, by decide, by decide, by decide, by decide⟩
  have hn1 := ex.2.2.1
  have hn0 := S1.2.2.1.2.2.1
  refine hk H2 a (SS_mono (SS_loc S1 ex im (fun x _ q => by rw [q]; exact ⟨q3, q4⟩) ?_) (by omega) (by omega))
  obtain ⟨F, h1, G, F1, g1, g2, g3, g4, g5⟩ := S1.2.1
  have ga : G a := by
    have g4 : YO C B H1 (gn 5 [[1502, 0]] []) G (some a) := g4
    rw [YO_gn] at g4
    unfold hoA at g4
    rw [if_pos (by decide)] at g4
    obtain ⟨x, hx, q, -⟩ := g4
    cases hx
    exact q
  have he := A.2.2.2.2.2.1
  refine ⟨fun x => F x ∨ (x = e ∧ yK H2 e = 1005), fun x q => ?_, fun x => G x ∨ (x = e ∧ yK H2 e = 1005), F1, fun x q => q.imp (g1 x) id, fun x q => Or.inl (g2 x q), fun x q w => ?_, YO_lst (Or.inl ga) A (fun q => Or.inr ⟨rfl, q⟩) rfl trivial, sep_ex ex im M F1 (fun x q w => g3 a ga (w ▸ q)) g5⟩
  · rcases q with q | ⟨rfl, q⟩
    · have := h1 x q
      exact ⟨this.1, by omega, this.2.2⟩
    · have := k5 q
      exact ⟨by omega, he, fun w => by have := SS_O S1 _ w; omega⟩
  · rcases q with q | ⟨rfl, q⟩
    · exact g3 x q w
    · have := k5 q
      have := (h1 _ (g2 _ w)).2.1
      omega
/-- one more -/
theorem zW_addW {k : Int → YS → ZR YS} (hd : 8 ≤ d) (hc : cap ≤ 10000000) (hw : ∀ x, w = some x → x < ynx H ∧ yokE 1005 (yK H x) = true) (S : SS C B X t Γ H σ η ((oC cap l, some a) :: (θ, w) :: M) g h) (hk : ∀ H1 cap1, SS C B X t Γ H1 σ η ((oC cap1 (l ++ [θ]), some a) :: M) (g + 1) (h + 4 * cap1 - 4 * cap) → cap ≤ cap1 → (cap1 ≤ max cap (2 * l.length + 10) ∧ (l.length < cap → cap1 = cap)) → zW (k 1 H1) Q) : zW (zI (ycv (YL C) d [(5, 505)] (some a) [.inr (.inr w)] H) k) Q := by
  obtain ⟨d, rfl⟩ : ∃ e, d = e + 7 := ⟨d - 7, by omega⟩
  obtain ⟨a', e, xs, F, G, F1, ha, h1, g1, g2, g3, ga, A, ge, hl, q6, g5⟩ := Lv_lst S.2.1
  cases ha
  obtain ⟨G2, F2, p1, p2, p3, p4, p5⟩ := g5
  have p4 : YO C B H θ G2 w := p4
  rw [ycv_s A.2.1 ⟨by decide, rfl⟩]
  refine zW_I (P := fun v H1 => v = 1 ∧ ∃ e1 cap1, AlY H1 a e1 cap1 (xs ++ [w]) ∧ yK H1 e1 = 1005 ∧ cap ≤ cap1 ∧ (cap1 ≤ max cap (2 * xs.length + 10) ∧ (xs.length < cap → cap1 = cap)) ∧ (e1 = e ∧ yK H e = 1005 ∨ ynx H ≤ e1) ∧ yEx (PA H a e) 1 (4 * (cap1 - cap)) H H1) (T := fun _ => False) (zW_c (zW_mono (y_alAdd' (d := d) (SS_E S) A hc hw) (fun o H1 q => by rw [q.1]; exact ⟨rfl, q.2⟩))) ?_ (fun _ q => q.elim)
  rintro v H1 ⟨rfl, e1, cap1, A1, k1, c1, c2, he, ex⟩
  have hn0 := S.2.2.1.2.2.1
  have hn1 := ex.2.2.1
  have pG : ∀ x, PA H a e x → G x := by
    rintro x (rfl | ⟨rfl, q⟩)
    · exact ga
    · exact ge q
  have im : Im B (PA H a e) H := by
    have ka := A.2.1
    refine ⟨fun x q _ => ?_, fun x q _ => ?_⟩ <;> rcases q with rfl | ⟨rfl, q⟩ <;> omega
  have he1 := A1.2.2.2.2.2.1
  refine hk H1 cap1 (SS_mono (SS_loc S ex im (fun x _ q => ?_) ?_) (by omega) (by omega)) c1 (by rw [← hl]; exact c2)
  · have := h1 x (g1 x (pG x q))
    exact ⟨this.1, this.2.2⟩
  · refine ⟨fun x => F x ∨ (x = e1 ∧ ynx H ≤ e1), fun x q => ?_, fun x => G x ∨ G2 x ∨ (x = e1 ∧ ynx H ≤ e1), F2, fun x q => ?_, fun x q => Or.inl (g2 x (p2 x q)), fun x q z => ?_, YO_lst (Or.inl ga) A1 (fun _ => ?_) ?_ ?_, sep_ex ex im M F2 (fun x q z => g3 x (pG x z) (p2 x q)) p5⟩
    · rcases q with q | ⟨rfl, q⟩
      · have := h1 x q
        exact ⟨this.1, by omega, this.2.2⟩
      · exact ⟨by omega, he1, fun z => by have := SS_O S _ z; omega⟩
    · rcases q with q | q | q
      · exact Or.inl (g1 x q)
      · exact Or.inl (g2 x (p1 x q))
      · exact Or.inr q
    · rcases q with q | q | ⟨rfl, q⟩
      · exact g3 x q (p2 x z)
      · exact p3 x q z
      · have := (h1 _ (g2 _ (p2 _ z))).2.1
        omega
    · rcases he with ⟨rfl, q⟩ | q
      · exact Or.inl (ge q)
      · exact Or.inr (Or.inr ⟨rfl, q⟩)
    · rw [List.length_append, List.length_append, hl]; rfl
    · rw [zip_snoc hl]
      have hae : a ≠ e := A.2.2.2.2.1
      have hGF : ∀ x, G x → x < ynx H := fun x q => (h1 x (g1 x q)).2.1
      have ne1 : ∀ x, G x → x ≠ e → x ≠ e1 := by
        intro x q1 q2 q3
        rcases he with ⟨rfl, _⟩ | q
        · exact q2 q3
        · have := hGF x q1; omega
      refine sep_app.mpr ⟨fun x => G x ∧ x ≠ a ∧ x ≠ e, G2, fun x q => ⟨Or.inl q.1, q.2.1, ne1 x q.1 q.2.2⟩, fun x q => ⟨Or.inr (Or.inl q), fun z => g3 a ga (p1 a (z ▸ q)), fun z => ?_⟩, fun x q z => g3 x q.1 (p1 x z), zip_ex ex im l xs _ (fun x q z => ?_) q6, G2, fun _ => False, fun _ q => q, fun _ q => q.elim, fun _ _ q => q, YO_ex ex im θ G2 w (fun x q z => g3 x (pG x z) (p1 x q)) p4, trivial⟩
      · rcases he with ⟨rfl, q'⟩ | q'
        · exact g3 _ (ge q') (p1 _ (z ▸ q))
        · have := (h1 _ (g2 _ (p1 _ q))).2.1
          omega
      · rcases z with z | ⟨z, _⟩
        · exact q.2.1 z
        · exact q.2.2 z
theorem zW_add {k : Int → YS → ZR YS} (hd : 8 ≤ d) (hc : cap ≤ 10000000) (ok : okG θ) (S : SS C B X t Γ H σ η ((oC cap l, some a) :: (θ, w) :: M) g h) (hk : ∀ H1 cap1, SS C B X t Γ H1 σ η ((oC cap1 (l ++ [θ]), some a) :: M) (g + 1) (h + 4 * cap1 - 4 * cap) → cap ≤ cap1 → (cap1 ≤ max cap (2 * l.length + 10) ∧ (l.length < cap → cap1 = cap)) → zW (k 1 H1) Q) : zW (zI (ycv (YL C) d [(5, 505)] (some a) [.inr (.inr w)] H) k) Q := by
  refine zW_addW hd hc ?_ S hk
  obtain ⟨F, h1, G, F1, g1, g2, g3, g4, G2, F2, p1, p2, p3, p4, p5⟩ := S.2.1
  have p4 : YO C B H θ G2 w := p4
  exact YO_ok p4 ok
end YLst
