set_option maxRecDepth 100000
/-! THE HOUSE'S PARSER: operands and operators that wait (printed by gen/dsl/p74u.py) -/
theorem rvm {α : Type} {f : α → Gt} {y : α} {l : List α} : (y :: l).reverse.map f = l.reverse.map f ++ [f y] := by rw [List.reverse_cons, List.map_append]; rfl
theorem rvl {α : Type} {f : α → Gt} {l : List α} : (l.reverse.map f).length = l.length := by rw [List.length_map, List.length_reverse]
section YRed
variable {C : YC} {B P O : Nat → Prop} {X : Nat → Nat} {t : List Int} {Γ : Gm} {H H' : YS} {σ σ1 : Ps} {η η1 : Et} {M : List (Gt × Option Nat)} {g h g' h' : Int} {a e c s d dp n cap : Nat} {F : List (List Int × Int × Int)} {Q : Option (Option ZV) → YS → Prop} {r : (Int × Nat) ⊕ (Gt × Ps)} {f : Ps → PR} {θ τ : Gt} {w : Option Nat} {l : List Gt} {tk : Tok}
theorem SS_tkv (S : SS C B X t Γ H σ η ((tkT tk, w) :: M) g h) : ∃ a, w = some a ∧ TokY C B H a tk := by
  obtain ⟨F, h1, G, F1, g1, g2, g3, g4, g5⟩ := S.2.1
  have g4 : YO C B H (tkT tk) G w := g4
  exact YO_tk g4
/-- text and place of a token that is live -/
theorem zW_txtO {k : Option Nat → ZR YS} (S : SS C B X t Γ H σ η ((tkT tk, some a) :: M) g h) (hk : ∀ s, SS C B X t Γ H σ η ((oS tk.2.2.1, some s) :: (tkT tk, some a) :: M) g h → zW (k (some s)) Q) : zW (ygR 6602 (some a) H k) Q := by
  obtain ⟨x, e, h1⟩ := SS_tkv S
  cases e
  obtain ⟨s, e1, e2⟩ := h1.2.2.2.2.1
  refine zW_gR h1.2.1 rfl ?_
  rw [e1]
  exact hk s (SS_im (Or.inl rfl) ⟨e2.1, e2⟩ S)
theorem zW_plcO {k : Int → ZR YS} (S : SS C B X t Γ H σ η ((tkT tk, some a) :: M) g h) (hk : zW (k (tk.2.1 : Int)) Q) : zW (ygI 6601 (some a) H k) Q := by
  obtain ⟨x, e, h1⟩ := SS_tkv S
  cases e
  refine zW_gI h1.2.1 rfl ?_
  rw [h1.2.2.2.1]
  exact hk
theorem zW_bgP {k : Int → ZR YS} (ha : 30 ≤ gk τ ∧ gk τ ≤ 41) (S : SS C B X t Γ H σ η ((ho τ, some a) :: M) g h) (hk : zW (k (gbg τ)) Q) : zW (ygI 7500 (some a) H k) Q := by
  obtain ⟨x, kd, i, fs, e, e1, -, -, -, -, -, e2, e3⟩ := SS_P0 ha S
  cases e
  refine zW_gI e1 e3 ?_
  rw [e2]
  exact hk
/-- an address as such; a list of addresses gets its parts -/
theorem SS_oA (S : SS C B X t Γ H σ η M g h) : SS C B X t Γ H σ η ((oA a, some a) :: M) g h := by
  obtain ⟨F, h1, h2⟩ := S.2.1
  exact ⟨S.1, ⟨F, h1, fun _ => False, F, fun _ q => q.elim, fun _ q => q, fun _ q => q.elim, (show YO C B H (oA a) (fun _ => False) (some a) from YO_oA.mpr rfl), h2⟩, S.2.2⟩
theorem SS_ok (ok : okG θ) (S : SS C B X t Γ H σ η ((θ, w) :: M) g h) : ∀ x, w = some x → x < ynx H ∧ yokE 1005 (yK H x) = true := by
  obtain ⟨F, h1, G, F1, g1, g2, g3, g4, g5⟩ := S.2.1
  have g4 : YO C B H θ G w := g4
  exact YO_ok g4 ok
theorem SS_lnest {b : Nat} (l1 : List Gt) {l2 : List Gt} (S : SS C B X t Γ H σ η ((oC cap (l1 ++ oA b :: l2), w) :: (θ, some b) :: M) g h) : SS C B X t Γ H σ η ((oC cap (l1 ++ θ :: l2), w) :: M) g h := by
  obtain ⟨F, h1, G, F1, g1, g2, g3, g4, G2, F2, k1, k2, k3, k4, k5⟩ := S.2.1
  have g4 : YO C B H (oC cap (l1 ++ oA b :: l2)) G w := g4
  obtain ⟨a, e, xs, rfl, ga, A, ge, hl, q6⟩ := YO_lst' g4
  rw [List.length_append] at hl
  have hl : xs.length = l1.length + (l2.length + 1) := hl
  have hi : l1.length < xs.length := by omega
  have hxs : xs = xs.take l1.length ++ xs[l1.length] :: xs.drop (l1.length + 1) := by
    rw [← List.drop_eq_getElem_cons hi, List.take_append_drop]
  have ht : (l1.map (YO C B H)).length = (xs.take l1.length).length := by rw [List.length_map, List.length_take]; omega
  have hz : ∀ y, List.zip ((l1 ++ y :: l2).map (YO C B H)) xs = List.zip (l1.map (YO C B H)) (xs.take l1.length) ++ (YO C B H y, xs[l1.length]) :: List.zip (l2.map (YO C B H)) (xs.drop (l1.length + 1)) := by
    intro y
    conv => lhs; rw [hxs]
    rw [List.map_append, List.zip_append ht]; rfl
  rw [hz] at q6
  obtain ⟨A1, A2, r1, r2, r3, r4, E1, E2, e1, e2, e3, e4, e5⟩ := sep_app.mp q6
  have e4 : YO C B H (oA b) E1 xs[l1.length] := e4
  have hb : xs[l1.length] = some b := YO_oA.mp e4
  have na : ∀ x, G2 x → x ≠ a ∧ x ≠ e := by
    refine fun x z => ⟨fun y => g3 a ga (k1 a (y ▸ z)), fun y => ?_⟩
    by_cases q : yK H e = 1005
    · exact g3 e (ge q) (k1 e (y ▸ z))
    · have q7 := A.2.2.2.2.2.2.1
      have := A.2.2.2.2.2.2.2.2.1
      omega
  refine ⟨S.1, ⟨F, h1, fun x => G x ∨ G2 x, F2, fun x z => z.elim (g1 x) (fun z => g2 x (k1 x z)), fun x z => g2 x (k2 x z), fun x z y => z.elim (fun z => g3 x z (k2 x y)) (fun z => k3 x z y), YO_lst (Or.inl ga) A (fun q => Or.inl (ge q)) (by rw [List.length_append]; exact hl) ?_, k5⟩, S.2.2⟩
  rw [hz]
  refine sep_app.mpr ⟨A1, fun x => A2 x ∨ G2 x, fun x z => ⟨Or.inl (r1 x z).1, (r1 x z).2⟩, fun x z => z.elim (fun z => ⟨Or.inl (r2 x z).1, (r2 x z).2⟩) (fun z => ⟨Or.inr z, na x z⟩), fun x z y => y.elim (r3 x z) (fun y => g3 x (r1 x z).1 (k1 x y)), r4, fun x => G2 x, E2, fun x z => Or.inr z, fun x z => Or.inl (e2 x z), fun x z y => g3 x (r2 x (e2 x y)).1 (k1 x z), ?_, e5⟩
  show YO C B H θ G2 xs[l1.length]
  rw [hb]
  exact k4
theorem zW_paired {kk : Option Nat → YS → ZR YS} {a b : Gt} {xa xb : Nat} (hd : 18 ≤ d) (ha : 30 ≤ gk a ∧ gk a ≤ 41) (hb : 30 ≤ gk b ∧ gk b ≤ 41) (S : SS C B X t Γ H σ η ((ho a, some xa) :: (ho b, some xb) :: M) g h) (hk : ∀ H1 ro, SS C B X t Γ H1 σ η ((oO 25 [7500, gbg a, 7504, 0] [oF 7501 (oL (nlb 2)), oF 7502 oN, oF 7503 (oL [ho a, ho b])], ro) :: M) (g + 26) (h + 123) → zW (kk ro H1) Q) : zW (zQ (ycv (YL C) d [(6, 139)] (some (X 8)) [.inr (.inr (some xa)), .inr (.inr (some xb))] H) kk) Q := by
  obtain ⟨d, rfl⟩ : ∃ e, d = e + 1 := ⟨d - 1, by omega⟩
  rw [ycv_s (SS_8 S) ⟨by decide, rfl⟩]
  refine zW_Q (P := fun ro H1 => SS C B X t Γ H1 σ η ((oO 25 [7500, gbg a, 7504, 0] [oF 7501 (oL (nlb 2)), oF 7502 oN, oF 7503 (oL [ho a, ho b])], ro) :: M) (g + 26) (h + 123)) (T := fun _ => False) (zW_c (yl_Parser_paired ?_)) (fun ro H1 w => hk H1 ro w) (fun _ w => w.elim)
  unfold yb_Parser_paired
  refine zW_alnewN (n := 2) (by omega) (by omega) S (fun H1 l1 S1 => zW_let ?_)
  have S1a := SS_pk 2 [1, 0] rfl rfl (SS_oA (a := xa) S1)
  refine zW_addW (by omega) (by omega) (SS_ok (okP_G ha) (SS_up 2 S1a rfl)) S1a (fun H2 c2 S2 f2 f2' => ?_)
  have f2' : c2 ≤ max 2 (2 * 0 + 10) ∧ (0 < 2 → c2 = 2) := f2'
  obtain rfl := f2'.2 (by decide)
  have S2a := SS_pk 2 [1, 0] rfl rfl (SS_oA (a := xb) S2)
  refine zW_addW (by omega) (by omega) (SS_ok (okP_G hb) (SS_up 3 S2a rfl)) S2a (fun H3 c3 S3 f3 f3' => ?_)
  have f3' : c3 ≤ max 2 (2 * 1 + 10) ∧ (1 < 2 → c3 = 2) := f3'
  obtain rfl := f3'.2 (by decide)
  have S4 := SS_new (kd := 25) (n := 7) (p := []) S3 (by decide) trivial
  refine zW_new ?_
  rw [if_neg (by decide)]
  refine zW_bgP ha (SS_up 2 S4 rfl) ?_
  refine zW_numbered (n := 2) (by omega) (by omega) S4 (fun H5 b5 S5 => ?_)
  have S5a : SS C B X t Γ H5 σ η ((oC 2 ([] ++ oA xa :: [oA xb]), some l1) :: (ho a, some xa) :: (ho b, some xb) :: (oL (nlb 2), some b5) :: _ :: M) _ _ := SS_pk 5 [2, 3, 4, 0, 1] rfl rfl S5
  have S5b : SS C B X t Γ H5 σ η ((oC 2 ([ho a] ++ oA xb :: []), some l1) :: (ho b, some xb) :: (oL (nlb 2), some b5) :: _ :: M) _ _ := SS_lnest [] S5a
  have S5c : SS C B X t Γ H5 σ η ((oC 2 [ho a, ho b], some l1) :: (oL (nlb 2), some b5) :: _ :: M) _ _ := SS_lnest [ho a] S5b
  have S6 := SS_no (SS_oL S5c)
  have S7 := SS_pk 4 [3, 2, 0, 1] rfl rfl S6
  refine m_RowPat (Or.inl rfl) (by omega) S7 (fun H8 S8 => zW_rQ ?_)
  exact SS_wk (p := [7500, gbg a, 7505, gbg a, 7504, 0]) (p' := [7500, gbg a, 7504, 0]) (by decide) (fun q => ⟨q.1, q.2.2⟩) (SS_mono S8 (by omega) (by omega))
theorem zW_consed {kk : YS → ZR YS} {c : Tok} {a b : Gt} {x : List Gt} {cs : List Tok} {cx co lx lo : Nat} (hd : 22 ≤ d) (ha : 30 ≤ gk a ∧ gk a ≤ 41) (hb : 30 ≤ gk b ∧ gk b ≤ 41) (hcx : cx ≤ 100000 ∧ co ≤ 100000) (S : SS C B X t Γ H σ η ((oC cx ((b :: a :: x).reverse.map ho), some lx) :: (oC co ((c :: cs).reverse.map tkT), some lo) :: M) g h) (hk : ∀ H1 cx1, SS C B X t Γ H1 σ η ((oC cx1 ((gn 40 [[gbg a, (c.2.1 : Int)], c.2.2.1] [a, b] :: x).reverse.map ho), some lx) :: (oC co (cs.reverse.map tkT), some lo) :: M) (g + 30) (h + 140 + 4 * cx1 - 4 * cx) → cx ≤ cx1 → cx1 ≤ max cx (2 * x.length + 10) → zW (kk H1) Q) : zW (zV (ycv (YL C) d [(6, 138)] (some (X 8)) [.inr (.inr (some lx)), .inr (.inr (some lo))] H) kk) Q := by
  obtain ⟨d, rfl⟩ : ∃ e, d = e + 1 := ⟨d - 1, by omega⟩
  rw [ycv_s (SS_8 S) ⟨by decide, rfl⟩]
  refine zW_V (P := fun H1 => ∃ cx1, SS C B X t Γ H1 σ η ((oC cx1 ((gn 40 [[gbg a, (c.2.1 : Int)], c.2.2.1] [a, b] :: x).reverse.map ho), some lx) :: (oC co (cs.reverse.map tkT), some lo) :: M) (g + 30) (h + 140 + 4 * cx1 - 4 * cx) ∧ cx ≤ cx1 ∧ cx1 ≤ max cx (2 * x.length + 10)) (T := fun _ => False) (zW_c (yl_Parser_consed ?_)) (fun H1 ⟨c1, w1, w2, w3⟩ => hk H1 c1 w1 w2 w3) (fun _ w => w.elim)
  unfold yb_Parser_consed
  have S1 := SS_pk 2 [1, 0] rfl rfl S
  have S1 : SS C B X t Γ H σ η ((oC co ((c :: cs).reverse.map tkT), some lo) :: (oC cx ((b :: a :: x).reverse.map ho), some lx) :: M) g h := S1
  rw [rvm, rvm, rvm] at S1
  refine zW_pop (by omega) (by omega) S1 (fun H1 wc S2 => ?_)
  obtain ⟨ac, rfl, tk2⟩ := SS_tkv S2
  refine zW_cc tk2.2.1 (by decide +kernel) (zW_let ?_)
  have S3 := SS_pk 3 [2, 0, 1] rfl rfl S2
  refine zW_pop (by omega) (by omega) S3 (fun H2 wb S4 => ?_)
  obtain ⟨xb, kb, ib, fb, rfl, kb1, -, -, kb2, -⟩ := SS_P0 hb S4
  refine zW_cc kb1 (cc_P kb2) (zW_let ?_)
  have S5 := SS_pk 2 [1, 0] rfl rfl S4
  refine zW_pop (by omega) (by omega) S5 (fun H3 wa S6 => ?_)
  obtain ⟨xa, ka, ia, fa, rfl, ka1, -, -, ka2, -⟩ := SS_P0 ha S6
  refine zW_cc ka1 (cc_P ka2) (zW_let ?_)
  have S7 := SS_new (kd := 38) (n := 6) (p := []) S6 (by decide) trivial
  refine zW_new ?_
  rw [if_neg (by decide)]
  have S8 := SS_pk 6 [4, 0, 1, 2, 3, 5] rfl rfl S7
  refine zW_txtO S8 (fun s S9 => ?_)
  refine zW_plcO (SS_up 1 S9 rfl) (zW_bgP ha (SS_up 3 S9 rfl) ?_)
  have S10 := SS_pk 7 [3, 5, 2, 0, 4, 6, 1] rfl rfl S9
  refine zW_paired (by omega) ha hb S10 (fun H4 ro S11 => ?_)
  have S12 := SS_pk 3 [1, 2, 0] rfl rfl S11
  refine m_ConPat (Or.inr rfl) (by omega) S12 (fun H5 S13 => ?_)
  have S14 := SS_pk 2 [1, 0] rfl rfl S13
  refine zW_add (by omega) (by omega) (okO (by decide)) S14 (fun H6 c6 S15 f6 f6' => zW_rV ⟨c6, ?_, f6, ?_⟩)
  · rw [rvm, ho_gn]
    exact SS_mono (SS_drop (SS_up 2 S15 rfl)) (by omega) (by omega)
  · rw [rvl] at f6'; exact f6'.1
theorem zW_joined {kk : YS → ZR YS} {c : Tok} {a b : Gt} {x : List Gt} {cs : List Tok} {cx co lx lo : Nat} (hd : 22 ≤ d) (ha : (3 ≤ gk a ∧ gk a ≤ 20) ∨ (90 ≤ gk a ∧ gk a ≤ 92)) (hb : (3 ≤ gk b ∧ gk b ≤ 20) ∨ (90 ≤ gk b ∧ gk b ≤ 92)) (hcx : cx ≤ 100000 ∧ co ≤ 100000) (S : SS C B X t Γ H σ η ((oC cx ((b :: a :: x).reverse.map ho), some lx) :: (oC co ((c :: cs).reverse.map tkT), some lo) :: M) g h) (hk : ∀ H1 cx1, SS C B X t Γ H1 σ η ((oC cx1 ((gn 7 [[gbg a, (c.2.1 : Int)], c.2.2.1] [a, b] :: x).reverse.map ho), some lx) :: (oC co (cs.reverse.map tkT), some lo) :: M) (g + 30) (h + 140 + 4 * cx1 - 4 * cx) → cx ≤ cx1 → cx1 ≤ max cx (2 * x.length + 10) → zW (kk H1) Q) : zW (zV (ycv (YL C) d [(6, 156)] (some (X 8)) [.inr (.inr (some lx)), .inr (.inr (some lo))] H) kk) Q := by
  obtain ⟨d, rfl⟩ : ∃ e, d = e + 1 := ⟨d - 1, by omega⟩
  rw [ycv_s (SS_8 S) ⟨by decide, rfl⟩]
  refine zW_V (P := fun H1 => ∃ cx1, SS C B X t Γ H1 σ η ((oC cx1 ((gn 7 [[gbg a, (c.2.1 : Int)], c.2.2.1] [a, b] :: x).reverse.map ho), some lx) :: (oC co (cs.reverse.map tkT), some lo) :: M) (g + 30) (h + 140 + 4 * cx1 - 4 * cx) ∧ cx ≤ cx1 ∧ cx1 ≤ max cx (2 * x.length + 10)) (T := fun _ => False) (zW_c (yl_Parser_joined ?_)) (fun H1 ⟨c1, w1, w2, w3⟩ => hk H1 c1 w1 w2 w3) (fun _ w => w.elim)
  unfold yb_Parser_joined
  have S1 := SS_pk 2 [1, 0] rfl rfl S
  have S1 : SS C B X t Γ H σ η ((oC co ((c :: cs).reverse.map tkT), some lo) :: (oC cx ((b :: a :: x).reverse.map ho), some lx) :: M) g h := S1
  rw [rvm, rvm, rvm] at S1
  refine zW_pop (by omega) (by omega) S1 (fun H1 wc S2 => ?_)
  obtain ⟨ac, rfl, tk2⟩ := SS_tkv S2
  refine zW_cc tk2.2.1 (by decide +kernel) (zW_let ?_)
  have S3 := SS_pk 3 [2, 0, 1] rfl rfl S2
  refine zW_pop (by omega) (by omega) S3 (fun H2 wb S4 => ?_)
  obtain ⟨xb, kb, ib, fb, rfl, kb1, -, -, kb2, -⟩ := SS_X0 hb S4
  refine zW_cc kb1 (cc_X kb2) (zW_let ?_)
  have S5 := SS_pk 2 [1, 0] rfl rfl S4
  refine zW_pop (by omega) (by omega) S5 (fun H3 wa S6 => ?_)
  obtain ⟨xa, ka, ia, fa, rfl, ka1, -, -, ka2, -⟩ := SS_X0 ha S6
  refine zW_cc ka1 (cc_X ka2) (zW_let ?_)
  have S7 := SS_new (kd := 54) (n := 4) (p := []) S6 (by decide) trivial
  refine zW_new ?_
  rw [if_neg (by decide)]
  have S7b := SS_new (kd := 51) (n := 4) (p := []) S7 (by decide) trivial
  refine zW_new ?_
  rw [if_neg (by decide)]
  have S8 := SS_pk 7 [5, 0, 1, 2, 3, 4, 6] rfl rfl S7b
  refine zW_txtO S8 (fun s S9 => ?_)
  refine zW_plcO (SS_up 1 S9 rfl) (zW_plcO (SS_up 1 S9 rfl) ?_)
  have S10 := SS_pk 3 [2, 0, 1] rfl rfl S9
  refine m_Use (by omega) S10 (fun H4 S11 => ?_)
  have S11a := SS_pk 4 [3, 0, 1, 2] rfl rfl S11
  obtain ⟨ya, eya, hb2⟩ := SS_bgE ha S11a
  cases eya
  have S12 := SS_pk 6 [3, 1, 0, 5, 2, 4] rfl rfl S11a
  refine m_Infix hb2 (by omega) S12 (fun H5 S13 => ?_)
  have S14 := SS_pk 3 [2, 0, 1] rfl rfl S13
  refine zW_add (by omega) (by omega) (okO (by decide)) S14 (fun H6 c6 S15 f6 f6' => zW_rV ⟨c6, ?_, f6, ?_⟩)
  · rw [rvm, ho_gn]
    exact SS_mono (SS_drop (SS_up 1 S15 rfl)) (by omega) (by omega)
  · rw [rvl] at f6'; exact f6'.1
end YRed
