set_option maxRecDepth 100000
/-! THE HOUSE'S PARSER: names of infix operators that wait; the last one of a list comes out -/
def tkT (c : Tok) : Gt := oT3 (c.1 : Int) c.2.2.2 (c.2.1 : Int) c.2.2.1
theorem okT3 {c : Tok} : okG (tkT c) := Or.inr ⟨(by decide : 101 ≤ 103), (by decide : 103 ≤ 106)⟩
def gopF (F : List (List Int × Int × Int)) (c : Tok) : Gt := gop c ((pIx F c).getD (0, 0)).1 ((pIx F c).getD (0, 0)).2
theorem pIx_St {F : List (List Int × Int × Int)} {c : Tok} (h : pSt F c ≠ none) : pIx F c = pSt F c := by
  unfold pIx
  rw [if_neg]
  intro q
  refine h ?_
  unfold pSt
  rw [if_neg (by rw [q.1]; decide)]
section YInf
variable {C : YC} {B P O : Nat → Prop} {X : Nat → Nat} {t : List Int} {Γ : Gm} {H H' : YS} {σ σ1 : Ps} {η η1 : Et} {M : List (Gt × Option Nat)} {g h g' h' : Int} {a e c s d dp n cap : Nat} {F : List (List Int × Int × Int)} {Q : Option (Option ZV) → YS → Prop} {r : (Int × Nat) ⊕ (Gt × Ps)} {f : Ps → PR} {θ τ : Gt} {w : Option Nat} {l : List Gt} {tk : Tok}
theorem SS_tok3 (S : SS C B X t Γ H σ η M g h) : ∃ a, yR H 1804 (X 8) = some a ∧ SS C B X t Γ H σ η ((tkT (pc σ), some a) :: M) g h := by
  obtain ⟨a, e, tk⟩ := SS_c S
  refine ⟨a, e, SS_im (Or.inr (Or.inr (Or.inl rfl))) ⟨tk.1, tk.2.1, ?_, tk.2.2.2.2.2, (fun q w => ?_), tk.2.2.2.2.1⟩ S⟩
  · exact tk.2.2.1
  · cases w
    exact tk.2.2.2.1
theorem YO_tk {G : Nat → Prop} (h : YO C B H (tkT tk) G w) : ∃ a, w = some a ∧ TokY C B H a tk := by
  obtain ⟨s, e, h1, h2, h3, h4, h5, h6⟩ := YO_im (Or.inr (Or.inr (Or.inl rfl))) h
  exact ⟨s, e, h1, h2, h3, h5 _ rfl, h6, h4⟩
theorem zW_tok3 {k : Option Nat → ZR YS} (S : SS C B X t Γ H σ η M g h) (hk : ∀ a, SS C B X t Γ H σ η ((tkT (pc σ), some a) :: M) g h → zW (k (some a)) Q) : zW (ygR 1804 (some (X 8)) H k) Q := by
  obtain ⟨a, e, S1⟩ := SS_tok3 S
  refine zW_gR (SS_8 S) rfl ?_
  rw [e]
  exact hk a S1
/-- the last one comes out -/
theorem zW_pop {kk : Option Nat → YS → ZR YS} (hd : 4 ≤ d) (hc : cap ≤ 10000000) (S : SS C B X t Γ H σ η ((oC cap (l ++ [θ]), some a) :: M) g h) (hk : ∀ H1 w, SS C B X t Γ H1 σ η ((θ, w) :: (oC cap l, some a) :: M) g h → zW (kk w H1) Q) : zW (zI (ycv (YL C) d [(5, 506)] (some a) [] H) fun v2 h1 => zG (inI (v2 - 1)) (zQ (ycv (YL C) d [(5, 590)] (some a) [.inl (v2 - 1)] h1) kk)) Q := by
  obtain ⟨d, rfl⟩ : ∃ e, d = e + 3 := ⟨d - 3, by omega⟩
  obtain ⟨a', e, xs, F, G, F1, ha, h1, g1, g2, g3, ga, A, ge, hl, q6, g5⟩ := Lv_lst S.2.1
  cases ha
  rw [List.length_append] at hl
  have hl : xs.length = l.length + 1 := hl
  have hne : xs ≠ [] := fun q => by rw [q] at hl; cases hl
  have hcl := A.2.2.2.2.2.2.2.2.1
  rw [ycv_s A.2.1 ⟨by decide, rfl⟩]
  refine zW_Ie (y_size A) (zW_G (by omega) ?_)
  rw [ycv_s A.2.1 ⟨by decide, rfl⟩]
  refine zW_Q (P := fun v H1 => v = xs.getLast hne ∧ AlY H1 a e cap xs.dropLast ∧ yEx (PA H a e) 0 0 H H1 ∧ ynx H1 = ynx H) (T := fun _ => False) (zW_c (zW_mono (y_alPop (d := d) A (by omega) hne) (fun o H1 q => by rw [q.1]; exact ⟨rfl, q.2⟩))) ?_ (fun _ q => q.elim)
  rintro v H1 ⟨rfl, A1, ex, -⟩
  have pG : ∀ x, PA H a e x → G x := by
    rintro x (rfl | ⟨rfl, q⟩)
    · exact ga
    · exact ge q
  have im : Im B (PA H a e) H := by
    have ka := A.2.1
    refine ⟨fun x q _ => ?_, fun x q _ => ?_⟩ <;> rcases q with rfl | ⟨rfl, q⟩ <;> omega
  have hxs : xs = xs.dropLast ++ [xs.getLast hne] := (List.dropLast_concat_getLast hne).symm
  have hdl : xs.dropLast.length = l.length := by rw [List.length_dropLast]; omega
  rw [hxs, zip_snoc hdl] at q6
  obtain ⟨A2, A3, r1, r2, r3, r4, A4, A5, r5, -, -, r6, -⟩ := sep_app.mp q6
  have hae : a ≠ e := A.2.2.2.2.1
  refine hk H1 _ (SS_mono (SS_loc S ex im (fun x _ q => ?_) ⟨F, fun x q => ⟨(h1 x q).1, Nat.lt_of_lt_of_le (h1 x q).2.1 ex.2.2.1, (h1 x q).2.2⟩, A4, fun x => F1 x ∨ (G x ∧ ¬ A4 x), fun x q => g1 x (r2 x (r5 x q)).1, fun x q => q.elim (g2 x) (fun q => g1 x q.1), fun x q w => w.elim (g3 x (r2 x (r5 x q)).1) (fun w => w.2 q), ?_, fun x => G x ∧ ¬ A4 x, F1, fun x q => Or.inr q, fun x q => Or.inl q, fun x q => g3 x q.1, ?_, sep_ex ex im M F1 (fun x q w => g3 x (pG x w) q) g5⟩) (by omega) (by omega))
  · have := h1 x (g1 x (pG x q))
    exact ⟨this.1, this.2.2⟩
  · refine YO_ex ex im θ A4 _ (fun x q w => ?_) r6
    have := r2 x (r5 x q)
    rcases w with w | w
    · exact this.2.1 w
    · exact this.2.2 w.1
  · refine YO_lst ⟨ga, fun q => (r2 a (r5 a q)).2.1 rfl⟩ A1 (fun q => ⟨ge (by rw [← (ex.2.1 e A.2.2.2.2.2.1).1]; exact q), fun q => (r2 e (r5 e q)).2.2 rfl⟩) hdl (sep_mono (zip_ex ex im l xs.dropLast A2 (fun x q w => ?_) r4) (fun x q => ⟨⟨(r1 x q).1, fun z => r3 x q (r5 x z)⟩, (r1 x q).2⟩))
    have := (r1 x q).2
    rcases w with w | w
    · exact this.1 w
    · exact this.2 w.1
/-- the last one is looked at: a token -/
theorem zW_last {kk : Option Nat → YS → ZR YS} (hd : 4 ≤ d) (hc : cap ≤ 10000000) (S : SS C B X t Γ H σ η ((oC cap (l ++ [tkT tk]), some a) :: M) g h) (hk : ∀ x, TokY C B H x tk → zW (kk (some x) H) Q) : zW (zI (ycv (YL C) d [(5, 506)] (some a) [] H) fun v2 h1 => zG (inI (v2 - 1)) (zQ (ycv (YL C) d [(5, 528)] (some a) [.inl (v2 - 1)] h1) kk)) Q := by
  obtain ⟨d, rfl⟩ : ∃ e, d = e + 3 := ⟨d - 3, by omega⟩
  obtain ⟨a', e, xs, F, G, F1, ha, h1, g1, g2, g3, ga, A, ge, hl, q6, g5⟩ := Lv_lst S.2.1
  cases ha
  rw [List.length_append] at hl
  have hl : xs.length = l.length + 1 := hl
  have hcl := A.2.2.2.2.2.2.2.2.1
  have hne : xs ≠ [] := fun q => by rw [q] at hl; cases hl
  have hxs : xs = xs.dropLast ++ [xs.getLast hne] := (List.dropLast_concat_getLast hne).symm
  have hdl : xs.dropLast.length = l.length := by rw [List.length_dropLast]; omega
  have hg : xs.getD l.length none = xs.getLast hne := by
    rw [List.getLast_eq_getElem, List.getD_eq_getElem?_getD, List.getElem?_eq_getElem (by omega)]
    show xs[l.length] = xs[xs.length - 1]
    congr 1
    omega
  rw [hxs, zip_snoc hdl] at q6
  obtain ⟨A2, A3, r1, r2, r3, r4, A4, A5, r5, -, -, r6, -⟩ := sep_app.mp q6
  have r6 : YO C B H (tkT tk) A4 (xs.getLast hne) := r6
  obtain ⟨x, e1, e2⟩ := YO_tk r6
  rw [ycv_s A.2.1 ⟨by decide, rfl⟩]
  refine zW_Ie (y_size A) (zW_G (by omega) ?_)
  rw [ycv_s A.2.1 ⟨by decide, rfl⟩, show (xs.length : Int) - 1 = (l.length : Int) by omega]
  refine zW_Qe (y_get (d := d) (k := l.length) A (by omega)) ?_
  rw [hg, e1]
  exact hk x e2
/-- how strong: = too -/
theorem y_infix (S : SS C B X t Γ H σ η M g h) (hd : 7 ≤ d) (ht : TokY C B H a tk) (hk : tk.1 ≤ 6 ∧ tk.2.2.1.length ≤ 200) : ∃ w, YL C d 137 [zr (X 8), zr a] H = some (some (some (.inr (.inr w))), H) ∧ ((w = none ∧ pIx (pF σ) tk = none) ∨ ∃ s q b, w = some s ∧ pIx (pF σ) tk = some q ∧ ImY C B H 106 [[q.1, q.2], b] s) := by
  obtain ⟨d, rfl⟩ : ∃ e, d = e + 7 := ⟨d - 7, by omega⟩
  have hs := (SS_F S).2 1 (by decide)
  have p2 := SS_8 S
  unfold pIx
  by_cases q : tIs tk 40
  · rw [if_pos q]
    refine ⟨some (X 12), zW_get (yl_Parser_infix ?_), Or.inr ⟨X 12, (4, 0), [61], rfl, rfl, S.1.1.2.2.2.2.1⟩⟩
    unfold yb_Parser_infix
    rw [ycv_s ht.2.1 ⟨by decide, rfl⟩]
    refine zW_Ie (y_tokIs (SS_D S) (SS_W S) ht hk.1 (by omega) hs) ?_
    rw [if_pos (show tk.1 = 0 ∧ tk.2.2.1 = cstr 1 from q)]
    refine zW_f (by decide) (zW_gR p2 rfl ?_)
    rw [S.1.1.2.2.1.2.2.2.2.2.2.1]
    exact zW_rQ ⟨rfl, rfl⟩
  · rw [if_neg q]
    obtain ⟨w, e1, e2⟩ := y_strength (d := d + 1) (SS_D S) (SS_W S) S.1 ht hk
    refine ⟨w, zW_get (yl_Parser_infix ?_), e2.imp id (fun ⟨s, q, z⟩ => ⟨s, q, _, z⟩)⟩
    unfold yb_Parser_infix
    rw [ycv_s ht.2.1 ⟨by decide, rfl⟩]
    refine zW_Ie (y_tokIs (SS_D S) (SS_W S) ht hk.1 (by omega) hs) ?_
    rw [if_neg (show ¬ (tk.1 = 0 ∧ tk.2.2.1 = cstr 1) from q)]
    refine zW_t rfl ?_
    rw [ycv_s p2 ⟨by decide, rfl⟩]
    exact zW_Qe e1 (zW_rQ ⟨rfl, rfl⟩)
theorem zW_ifx {A D : YS → ZR YS} (hd : 9 ≤ d) (S : SS C B X t Γ H σ η M g h) (h1 : pIx (pF σ) (pc σ) = none → zW (A H) Q) (h0 : pIx (pF σ) (pc σ) ≠ none → zW (D H) Q) : zW (ygR 1804 (some (X 8)) H fun v => zQ (ycv (YL C) d [(6, 137)] (some (X 8)) [.inr (.inr v)] H) fun v2 h2 => ynull v2 (A h2) (D h2)) Q := by
  obtain ⟨d, rfl⟩ : ∃ e, d = e + 1 := ⟨d - 1, by omega⟩
  obtain ⟨a, e, tk⟩ := SS_c S
  have hk := SS_tk S
  refine zW_gR (SS_8 S) rfl ?_
  rw [e, ycv_s (SS_8 S) ⟨by decide, rfl⟩]
  obtain ⟨w, e1, e2⟩ := y_infix (d := d) S (by omega) tk ⟨hk.1, hk.2.2.1⟩
  refine zW_Qe e1 ?_
  rcases e2 with ⟨rfl, e2⟩ | ⟨s, q, b, rfl, e2, -⟩
  · exact zW_n0 (h1 e2)
  · exact zW_nn (h0 (fun z => by rw [e2] at z; cases z))
/-- who goes first -/
theorem zW_ahead {kk : Int → YS → ZR YS} {q1 q2 : Int × Int} (hd : 9 ≤ d) (S : SS C B X t Γ H σ η M g h) (hg : g ≤ 4000) (hh : h ≤ 4000) (h1 : TokY C B H a tk) (k1 : tk.1 ≤ 6 ∧ tk.2.2.1.length ≤ 200) (e1 : pIx (pF σ) tk = some q1) (e2 : pIx (pF σ) (pc σ) = some q2) (ht : q1.1 = q2.1 ∧ q1.2 ≠ q2.2 → ∀ H', Th C B X t Γ H' 2 (pc σ).2.1 → Q none H') (hT : ¬ (q1.1 = q2.1 ∧ q1.2 ≠ q2.2) → q2.1 < q1.1 ∨ (q1.1 = q2.1 ∧ q1.2 = 0) → zW (kk 1 H) Q) (hF : ¬ (q1.1 = q2.1 ∧ q1.2 ≠ q2.2) → ¬ (q2.1 < q1.1 ∨ (q1.1 = q2.1 ∧ q1.2 = 0)) → zW (kk 0 H) Q) : zW (ygR 1804 (some (X 8)) H fun v => zI (ycv (YL C) d [(6, 136)] (some (X 8)) [.inr (.inr (some a)), .inr (.inr v)] H) kk) Q := by
  obtain ⟨d, rfl⟩ : ∃ e, d = e + 2 := ⟨d - 2, by omega⟩
  obtain ⟨b, e, tkb⟩ := SS_c S
  have hk := SS_tk S
  have p2 := SS_8 S
  refine zW_gR p2 rfl ?_
  rw [e, ycv_s p2 ⟨by decide, rfl⟩]
  obtain ⟨w1, f1, g1⟩ := y_infix (d := d) S (by omega) h1 k1
  obtain ⟨w2, f2, g2⟩ := y_infix (d := d) S (by omega) tkb ⟨hk.1, hk.2.2.1⟩
  rcases g1 with ⟨-, g1⟩ | ⟨s1, r1, b1, rfl, g1, i1⟩
  · rw [g1] at e1; cases e1
  rcases g2 with ⟨-, g2⟩ | ⟨s2, r2, b2, rfl, g2, i2⟩
  · rw [g2] at e2; cases e2
  rw [e1] at g1
  rw [e2] at g2
  cases g1
  cases g2
  obtain ⟨-, i11, i12, i13, -⟩ := i1
  obtain ⟨-, i21, i22, i23, -⟩ := i2
  have i12 : yI H 2101 s1 = q1.1 := i12
  have i13 : yI H 2102 s1 = q1.2 := i13
  have i22 : yI H 2101 s2 = q2.1 := i22
  have i23 : yI H 2102 s2 = q2.2 := i23
  refine zW_I (P := fun v H1 => H1 = H ∧ ¬ (q1.1 = q2.1 ∧ q1.2 ≠ q2.2) ∧ ((v = 1 ∧ (q2.1 < q1.1 ∨ (q1.1 = q2.1 ∧ q1.2 = 0))) ∨ (v = 0 ∧ ¬ (q2.1 < q1.1 ∨ (q1.1 = q2.1 ∧ q1.2 = 0))))) (T := fun H1 => (q1.1 = q2.1 ∧ q1.2 ≠ q2.2) ∧ Th C B X t Γ H1 2 (pc σ).2.1) (zW_c (yl_Parser_isAhead ?_)) ?_ (fun H1 w => ht w.1 H1 w.2)
  · unfold yb_Parser_isAhead
    rw [ycv_s p2 ⟨by decide, rfl⟩]
    refine zW_Qe f1 (zW_let ?_)
    rw [ycv_s p2 ⟨by decide, rfl⟩]
    refine zW_Qe f2 (zW_let (zW_gI i11 rfl (zW_gI i21 rfl ?_)))
    rw [i12, i22]
    have tail : ¬ (q1.1 = q2.1 ∧ q1.2 ≠ q2.2) → zW (YL C (d + 1) 589 [zr s1, zr s2] H) (oI (fun v H1 => H1 = H ∧ ¬ (q1.1 = q2.1 ∧ q1.2 ≠ q2.2) ∧ ((v = 1 ∧ (q2.1 < q1.1 ∨ (q1.1 = q2.1 ∧ q1.2 = 0))) ∨ (v = 0 ∧ ¬ (q2.1 < q1.1 ∨ (q1.1 = q2.1 ∧ q1.2 = 0))))) (fun H1 => (q1.1 = q2.1 ∧ q1.2 ≠ q2.2) ∧ Th C B X t Γ H1 2 (pc σ).2.1)) := by
      intro hn
      refine yl_Parser_isAhead_p50 ?_
      unfold yb_Parser_isAhead_p50
      refine zW_gI i11 rfl (zW_gI i21 rfl ?_)
      rw [i12, i22]
      refine zW_if (fun y => zW_gI i11 rfl (zW_gI i21 rfl ?_)) (fun y => zW_rN rfl ⟨rfl, hn, Or.inl ⟨rfl, Or.inl (by omega)⟩⟩)
      rw [i12, i22]
      refine zW_if (fun z => zW_gI i11 rfl ?_) (fun z => zW_rN rfl ⟨rfl, hn, Or.inr ⟨rfl, by omega⟩⟩)
      rw [i13]
      exact zW_if (fun z2 => zW_rN rfl ⟨rfl, hn, Or.inl ⟨rfl, Or.inr ⟨z, z2⟩⟩⟩) (fun z2 => zW_rN rfl ⟨rfl, hn, Or.inr ⟨rfl, by omega⟩⟩)
    refine zW_if (fun y => zW_gI i11 rfl (zW_gI i21 rfl ?_)) (fun y => tail (fun z => y z.1))
    rw [i13, i23]
    refine zW_if (fun z => tail (fun z2 => z2.2 z)) (fun z => zW_gR p2 rfl ?_)
    rw [S.1.1.2.2.1.2.2.1]
    refine zW_gI tkb.2.1 rfl ?_
    rw [tkb.2.2.2.1, ycv_s (SS_F S).1.2.1.2.2.2.1 ⟨by decide, rfl⟩]
    exact zW_Qe (y_at (SS_F S)) (zW_ythrow (by exact (SS_F S).1.2.1.2.2.2.2.1) ⟨⟨y, z⟩, Th_of S (by omega) (by omega)⟩)
  · rintro v H1 ⟨rfl, hn, ⟨rfl, q⟩ | ⟨rfl, q⟩⟩
    · exact hT hn q
    · exact hF hn q
end YInf
