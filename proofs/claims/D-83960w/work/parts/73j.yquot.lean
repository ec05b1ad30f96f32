set_option maxRecDepth 100000
/-! THE HOUSE'S LEXER: strings, signs in quotes -/
section YQuot
variable {B P : Nat → Prop} {C : YC} {X : Nat → Nat} {H H' H1 H3 : YS} {a a' e' s c d f g i j x cap cap' r c0 s0 : Nat} {v e : Int} {t b b' : List Int} {KW KW' : List (List Int)} {Q : Option (Option ZV) → YS → Prop}
theorem yEx_put2 (h : yEx P c s H H') : yEx P c s (yput H f a v) (yput H' f a v) := ⟨fun b hb hq => by
  have := h.1 b hb hq
  refine ⟨fun g => ?_, this.2⟩
  show (if g = f ∧ b = a then v else yI H' g b) = (if g = f ∧ b = a then v else yI H g b)
  rw [this.1], h.2⟩
theorem y_sbCharAt {k : Nat} (h : SbY H a x cap b) (hk : k < b.length) (hc : cap < 2147483648) : YL C (d + 3) 975 [zr a, .inl (k : Int)] H = some (some (some (.inl (b.getD k 0))), H) := by
  obtain ⟨h1, h2, h3, h4, h5, h6, g1, g2, g3, g4, g5, g6, g7⟩ := h
  have hin := getD_in g7 k
  have e1 : YL C (d + 2) 1005 [zr a, .inl (k : Int)] H = some (some (some (.inl (b.getD k 0))), H) := by
    refine zW_get (yl_AbstractStringBuilder_charAt ?_)
    unfold yb_AbstractStringBuilder_charAt
    refine zW_gI h2 rfl ?_
    rw [h4]
    refine zW_let (zW_gR h2 rfl ?_)
    rw [h3]
    refine zW_let (zW_gI h2 rfl ?_)
    rw [h5]
    refine zW_len (by omega) ?_
    rw [g3, zshr_0 hc]
    have hm := y_min (C := C) (d := d + 1) (H := H) (x := (b.length : Int)) (y := (cap : Int))
    rw [if_pos (by omega)] at hm
    refine zW_Ie hm (zW_let (zW_Ve (y_strIndex (by omega)) (zW_t rfl (zW_aI g2 rfl (by omega) ?_))))
    rw [g5 k hk, zchar_byte hin]
    exact zW_rN (by show decide _ = true; exact decide_eq_true (by omega)) ⟨rfl, rfl⟩
  refine zW_get (yl_StringBuilder_charAt ?_)
  unfold yb_StringBuilder_charAt
  rw [ycu_s h2 (by decide)]
  exact zW_Ie e1 (zW_rN (by show decide _ = true; exact decide_eq_true (by omega)) ⟨rfl, rfl⟩)
/-- a string, or a sign in quotes -/
theorem y_quoted {kd jj d0 : Nat} (hkd : kd = 4 ∧ jj = 13 ∧ d0 = 1 ∨ kd = 5 ∧ jj = 14 ∧ d0 = 2) (hKD : C.2.2.1 13 ≠ C.2.2.1 14) (hC : CW C) (hB : ∀ x, B x → x < ynx H) (hF : Lf C B X H) (hT : Lt X H t a) (hN : LnY B X H KW cap) (hle : a + d0 ≤ t.length)
    (hok : ∀ b j r H', sStr t (a + d0) [] = .inr (b, j) → (if kd = 5 then b.length = 1 else b.length ≤ 200) → TkOk C B X t KW cap H (kd, a, b, if kd = 5 then b.getD 0 0 else 0) j r H' → Q (some (some (.inr (.inr r)))) H')
    (her1 : ∀ p H', sStr t (a + d0) [] = .inl p → ThOk C B X t KW cap H 1 p H' → Q none H')
    (her2 : ∀ b j H', sStr t (a + d0) [] = .inr (b, j) → ¬ (if kd = 5 then b.length = 1 else b.length ≤ 200) → ThOk C B X t KW cap H 1 a H' → Q none H') :
    zW (YL C (d + 6) 184 [zr (X 0), .inl (a : Int), .inr (.inr (C.2.2.1 jj))] H) Q := by
  have k0 := hF.1.2.1.1
  have lt := hF.1.1
  have hl := hT.2.2.1.1
  have hjj : C.2.2.1 jj = C.2.2.1 14 ↔ kd = 5 := by
    rcases hkd with ⟨rfl, rfl, -⟩ | ⟨rfl, rfl, -⟩
    · exact ⟨fun q => absurd q hKD, fun q => by omega⟩
    · exact ⟨fun _ => rfl, fun _ => rfl⟩
  have htk : C.2.2.1 jj = tkK C kd := by
    rcases hkd with ⟨rfl, rfl, -⟩ | ⟨rfl, rfl, -⟩ <;> rfl
  have loop : ∀ (n i : Nat) (acc : List Int) (Hk : YS) (ek capk : Nat), t.length < n + i → i ≤ t.length → SbY Hk (ynx H) ek capk acc → ynx H ≤ ek → acc.length + a + 1 ≤ i → 16 ≤ capk → capk ≤ 2 * acc.length + 18 → yEx (fun _ => False) (2 + acc.length) (20 + 2 * (capk - 16)) (yput H 2404 (X 0) (i : Int)) Hk → sStr t i acc = sStr t (a + d0) [] → zW (YL C (d + 6) 815 [zr (X 0), .inl (a : Int), .inr (.inr (C.2.2.1 jj)), zr (ynx H)] Hk) Q := by
    intro n
    induction n with
    | zero => intro i acc Hk ek capk h1 h2; omega
    | succ n ih =>
      intro i acc Hk ek capk h1 h2 hS h3 h4 h5 h6 hx hst
      have F0 := Lf_put (f := 2404) (x := X 0) (v := (i : Int)) (by decide) hF
      have T0 := Lt_at (j := i) hT h2
      have N0 := LnY_put (a := X 0) (f := 2404) (v := (i : Int)) hN (by decide)
      have Fk := Lf_ex F0 hx PN_F (fun z => z) (fun z => z) (fun z => z)
      have Tk := Lt_ex F0 T0 hx (fun z => z) (fun z => z)
      have Nk := LnY_ex F0 N0 hx PN_F (fun z => z) (fun z => z) (fun z => z) (fun _ _ _ z => z)
      have Mk := PL_ex F0 hx (fun z => z)
      have xk : ynx H ≤ ynx Hk := hx.2.2.1
      have kk := Fk.1.2.1.1
      have hin := tc0_in hT.2.2.1 i
      have exk : yEx (PL X H) (2 + acc.length) (20 + 2 * (capk - 16)) H Hk := yEx_mono (yEx_trans (P := PL X H) (yEx_put (yEx_refl (c := 0) (s := 0)) (fun _ => Or.inl rfl)) hx (fun _ _ z => z.elim)) (fun _ _ z => z) (by omega) (by omega)
      have wrong : sStr t i acc = .inl i → zW (zQ (ycv (YL C) (d + 6) [(8, 175)] (some (X 0)) [] Hk) fun v h => ythrow v h) Q := fun he => zW_wrong Fk Tk (her1 i _ (by rw [← hst]; exact he) (ThOk_thr Fk Tk Nk (Nat.le_succ _) (Nat.le_refl _) exk (by omega) (by omega) Mk))
      -- one byte more
      have push : ∀ (w : Int) (j : Nat) (H1 : YS), i < j → j ≤ t.length → 0 ≤ w ∧ w ≤ 255 → H1 = yput Hk 2404 (X 0) (j : Int) → sStr t j (acc ++ [w]) = sStr t i acc → zW (zQ (ycv (YL C) (d + 6) [(23, 512)] (some (ynx H)) [.inl (zchar w)] H1) fun _ h31 => YL C (d + 6) 815 [zr (X 0), .inl (a : Int), .inr (.inr (C.2.2.1 jj)), zr (ynx H)] h31) Q := by
        intro w j H1 q1 q2 q3 q4 q5
        have hx1 := yEx_put2 (f := 2404) (a := X 0) (v := (j : Int)) hx
        rw [yput_put, ← q4] at hx1
        have hS1 : SbY H1 (ynx H) ek capk acc := by
          rw [q4]
          exact SbY_ex hS (yEx_put (P := fun x => x = X 0) (c := 0) (s := 0) yEx_refl (fun _ => rfl)) ⟨fun q => by have := lt 0 (by decide); omega, fun q => by have := lt 0 (by decide); omega⟩
        rw [zchar_x q3, ycv_s hS1.2.1 ⟨by decide, rfl⟩]
        refine zW_Q (P := fun r H2 => ∃ e1 cap1, SbY H2 (ynx H) e1 cap1 (acc ++ [w]) ∧ capk ≤ cap1 ∧ cap1 ≤ max capk (2 * acc.length + 2) ∧ (e1 = ek ∨ ynx H1 ≤ e1) ∧ yEx (fun x => x = ynx H ∨ x = ek) 1 (2 * (cap1 - capk)) H1 H2) (T := fun _ => False) (zW_c (zW_mono (y_sbAppend (d := d) hC hS1 q3 (by omega)) ?_)) ?_ (fun _ q => q.elim)
        · rintro o H2 ⟨rfl, q⟩
          exact q
        · rintro ro H2 ⟨e1, cap1, p1, p2, p3, p4, p5⟩
          have x1 : ynx H ≤ ynx H1 := hx1.2.2.1
          have hlen : (acc ++ [w]).length = acc.length + 1 := by rw [List.length_append]; rfl
          refine ih j (acc ++ [w]) H2 e1 cap1 (by omega) q2 p1 (by omega) (by omega) (by omega) (by omega) ?_ (by rw [q5]; exact hst)
          exact yEx_mono (yEx_trans hx1 p5 (fun y hy q => by have hy : y < ynx H := hy; omega)) (fun _ _ z => z) (by omega) (by omega)
      rw [sStr] at hst wrong push
      refine yl_Lexer_quoted_p31 ?_
      unfold yb_Lexer_quoted_p31
      rw [ycv_lex' Fk]
      refine zW_Ie (y_see (k := 0) Fk Tk (by decide)) ?_
      rw [show i + 0 = i from rfl]
      refine zW_if (fun y => ?_) (fun y => ?_)
      · rw [if_pos (by omega), if_pos (by omega)] at hst
        refine zW_gI kk rfl ?_
        rw [Tk.2.1]
        refine zW_G (by omega) (zW_pI kk (by decide) rfl (zW_svR ?_))
        rw [show (i : Int) + 1 = ((i + 1 : Nat) : Int) by omega]
        have hx1 := yEx_put2 (f := 2404) (a := X 0) (v := ((i + 1 : Nat) : Int)) hx
        rw [yput_put] at hx1
        have hS1 : SbY (yput Hk 2404 (X 0) ((i + 1 : Nat) : Int)) (ynx H) ek capk acc := SbY_ex hS (yEx_put (P := fun x => x = X 0) (c := 0) (s := 0) yEx_refl (fun _ => rfl)) ⟨fun q => by have := lt 0 (by decide); omega, fun q => by have := lt 0 (by decide); omega⟩
        have x1 : ynx H ≤ ynx (yput Hk 2404 (X 0) ((i + 1 : Nat) : Int)) := xk
        generalize yput Hk 2404 (X 0) ((i + 1 : Nat) : Int) = H1 at *
        have F0 := Lf_put (f := 2404) (x := X 0) (v := ((i + 1 : Nat) : Int)) (by decide) hF
        have T0 := Lt_at (j := i + 1) hT (by omega)
        have N0 := LnY_put (a := X 0) (f := 2404) (v := ((i + 1 : Nat) : Int)) hN (by decide)
        have F1 := Lf_ex F0 hx1 PN_F (fun z => z) (fun z => z) (fun z => z)
        have T1 := Lt_ex F0 T0 hx1 (fun z => z) (fun z => z)
        have N1 := LnY_ex F0 N0 hx1 PN_F (fun z => z) (fun z => z) (fun z => z) (fun _ _ _ z => z)
        have M1 := PL_ex F0 hx1 (fun z => z)
        have ex1 : yEx (PL X H) (2 + acc.length) (20 + 2 * (capk - 16)) H H1 := yEx_mono (yEx_trans (P := PL X H) (yEx_put (yEx_refl (c := 0) (s := 0)) (fun _ => Or.inl rfl)) hx1 (fun _ _ z => z.elim)) (fun _ _ z => z) (by omega) (by omega)
        have I1 : yI H1 2405 (X 0) = yI H 2405 (X 0) := ((hx1.1 (X 0) (lt 0 (by decide)) (fun z => z)).1 2405).trans (yput_f (by decide))
        have good : (if kd = 5 then acc.length = 1 else acc.length ≤ 200) → zW (YL C (d + 6) 925 [.inl (a : Int), .inr (.inr (C.2.2.1 jj)), zr (ynx H)] H1) Q := by
          intro hg
          have exS : yEx (fun _ => False) 1 4 H1 (ymk H1 22 0 4) := yEx_mono (yEx_mk (c := 0) (s := 0) yEx_refl) (fun _ _ z => z) (by omega) (by omega)
          have FS := Lf_ex F1 exS PN_F (fun z => z) (fun z => z) (fun z => z)
          have TS := Lt_ex F1 T1 exS (fun z => z) (fun z => z)
          have NS := LnY_ex F1 N1 exS PN_F (fun z => z) (fun z => z) (fun z => z) (fun _ _ _ z => z)
          have hSS := SbY_ex hS1 exS ⟨fun z => z, fun z => z⟩
          refine yl_Lexer_quoted_p167 ?_
          unfold yb_Lexer_quoted_p167
          refine zW_new ?_
          rw [if_neg (by decide), ycv_s hSS.2.1 ⟨by decide, rfl⟩]
          have xS : ynx (ymk H1 22 0 4) = ynx H1 + 1 := rfl
          have kS : yK (ymk H1 22 0 4) (ynx H1) = 22 := by rw [ymk_K, if_pos rfl]
          refine zW_Q (P := fun ro H2 => ro = some (ynx (ymk H1 22 0 4)) ∧ StrY B H2 (ynx (ymk H1 22 0 4)) acc ∧ yEx (fun _ => False) 2 (4 + acc.length) (ymk H1 22 0 4) H2) (T := fun _ => False) (zW_c (zW_mono (y_toString (d := d) hC (fun x hx => by have := hB x hx; omega) hSS (by omega)) ?_)) ?_ (fun _ q => q.elim)
          · rintro o H2 ⟨rfl, q1, q2, q3⟩
            exact ⟨rfl, q1, q2⟩
          · rintro ro H2 ⟨rfl, p1, p2⟩
            have F2 := Lf_ex FS p2 PN_F (fun z => z) (fun z => z) (fun z => z)
            have T2 := Lt_ex FS TS p2 (fun z => z) (fun z => z)
            have N2 := LnY_ex FS NS p2 PN_F (fun z => z) (fun z => z) (fun z => z) (fun _ _ _ z => z)
            have S2 := SbY_ex hSS p2 ⟨fun z => z, fun z => z⟩
            have ex2 : yEx (PL X H) (2 + acc.length + 1 + 2) (20 + 2 * (capk - 16) + 4 + (4 + acc.length)) H H2 := yEx_trans (yEx_trans ex1 exS (fun _ _ z => z.elim)) p2 (fun _ _ z => z.elim)
            have fin : ∀ vv : Int, vv = (if kd = 5 then acc.getD 0 0 else 0) → zW (zV (ycs (YL C) (d + 6) 315 (some (ynx H1)) [.inr (.inr (C.2.2.1 jj)), .inl (a : Int), .inr (.inr (some (ynx (ymk H1 22 0 4)))), .inl vv] H2) fun h8 => zrQ (some (ynx H1)) h8) Q := by
              rintro vv rfl
              refine zW_tok (k := (kd, a, acc, if kd = 5 then acc.getD 0 0 else 0)) (H := H) (KW' := KW) (cap' := cap) lt (by omega) (by have := p2.2.2.1; omega) (by rw [(p2.2.1 _ (by omega)).1]; exact kS) htk p1 F2 T2 N2 (Nat.le_succ _) (Nat.le_refl _) ?_ ex2 (by show 2 + acc.length + 1 + 2 ≤ 50 + (i + 1 - a); omega) (by show _ ≤ 300 + 8 * (i + 1 - a) + 4 * (cap - cap); omega) (fun x hx q => ?_) (fun H' q => hok acc (i + 1) _ H' hst.symm hg q)
              · rw [(p2.1 (X 0) (FS.1.1 0 (by decide)) (fun z => z)).1, (exS.1 (X 0) (F1.1.1 0 (by decide)) (fun z => z)).1]
                exact I1
              · exact M1 x hx (PL_ex F1 exS (fun z => z) x (by omega) (PL_ex FS p2 (fun z => z) x (by omega) q))
            refine zW_svR (zW_if (fun z => ?_) (fun z => fin 0 (by rw [if_neg (fun w => z (hjj.mpr w))])))
            have hk5 := hjj.mp z
            rw [if_pos hk5] at hg
            rw [ycv_s S2.2.1 ⟨by decide, rfl⟩]
            exact zW_Ie (y_sbCharAt (k := 0) S2 (by omega) (by omega)) (fin _ (by rw [if_pos hk5]))
        have bad : ¬ (if kd = 5 then acc.length = 1 else acc.length ≤ 200) → zW (ygR 2402 (some (X 0)) H1 fun v8 => zQ (ycv (YL C) (d + 6) [(1, 48)] v8 [.inl 1, .inl (a : Int)] H1) fun v10 h9 => ythrow v10 h9) Q := fun hg => zW_at F1 (her2 acc (i + 1) _ hst.symm hg (ThOk_thr F1 T1 N1 (Nat.le_succ _) (Nat.le_refl _) ex1 (by omega) (by omega) M1))
        refine zW_if (fun z => ?_) (fun z => ?_)
        · have hk5 := hjj.mp z
          rw [if_pos hk5] at good bad
          rw [ycv_s hS1.2.1 ⟨by decide, rfl⟩]
          exact zW_Ie (y_sbLength hS1) (zW_if (fun w => good (by omega)) (fun w => bad (by omega)))
        · have hk5 : ¬ kd = 5 := fun w => z (hjj.mpr w)
          rw [if_neg hk5] at good bad
          rw [ycv_s hS1.2.1 ⟨by decide, rfl⟩]
          exact zW_Ie (y_sbLength hS1) (zW_if (fun w => good (by omega)) (fun w => bad (by omega)))
      · refine zW_gI kk rfl (zW_gI kk rfl ?_)
        rw [Tk.1, Tk.2.1]
        refine zW_if (fun z => ?_) (fun z => wrong (by rw [if_neg (by omega)]))
        have hb : i < t.length := by omega
        have ec : tc0 t i = tch t i := by omega
        rw [ec] at y
        rw [ycv_lex' Fk]
        refine zW_Ie (y_see (k := 0) Fk Tk (by decide)) ?_
        rw [show i + 0 = i from rfl, ec]
        refine zW_if (fun z1 => wrong (by rw [if_pos hb, if_neg y, if_neg (by omega), if_pos (Or.inl z1)])) (fun z1 => ?_)
        rw [ycv_lex' Fk]
        refine zW_Ie (y_see (k := 0) Fk Tk (by decide)) ?_
        rw [show i + 0 = i from rfl, ec]
        refine zW_if (fun z2 => ?_) (fun z2 => wrong (by rw [if_pos hb, if_neg y, if_neg (by omega), if_pos (Or.inr (by omega))]))
        rw [ycv_lex' Fk]
        refine zW_Ie (y_see (k := 0) Fk Tk (by decide)) ?_
        rw [show i + 0 = i from rfl, ec]
        refine zW_let (zW_gI kk rfl ?_)
        rw [Tk.2.1]
        refine zW_G (by omega) (zW_pI kk (by decide) rfl ?_)
        rw [show (i : Int) + 1 = ((i + 1 : Nat) : Int) by omega]
        have F1 := Lf_put (f := 2404) (x := X 0) (v := ((i + 1 : Nat) : Int)) (by decide) Fk
        have T1 := Lt_at (j := i + 1) Tk (by omega)
        have N1 := LnY_put (a := X 0) (f := 2404) (v := ((i + 1 : Nat) : Int)) Nk (by decide)
        refine zW_if (fun z3 => ?_) (fun z3 => ?_)
        · rw [if_pos hb, if_neg y, if_pos z3] at hst push
          rw [ycv_lex' F1]
          refine zW_I (P := fun v H2 => ∃ j, sEsc t (i + 1) = .inr (v, j) ∧ H2 = yput Hk 2404 (X 0) (j : Nat)) (T := fun H2 => Q none H2) (zW_c (y_escaped (d := d + 3) F1 T1 (fun v j q => ⟨j, q, by rw [yput_put]⟩) (fun p q q1 => ?_))) ?_ (fun _ q => q)
          · rw [q] at hst
            rw [yput_put]
            refine her1 p _ hst.symm (ThOk_thr (Lf_put (by decide) Fk) (Lt_at (j := p) Tk q1) (LnY_put Nk (by decide)) (Nat.le_succ _) (Nat.le_refl _) (yEx_put exk (fun _ => Or.inl rfl)) (by omega) (by omega) Mk)
          · rintro w H2 ⟨j, q1, q2⟩
            have hj := sEsc_j hT.2.2.1 q1
            rw [q1] at push
            dsimp only at push
            rw [if_pos (by omega)] at push
            exact push w j H2 (by omega) hj.2 (sEsc_in q1) q2 rfl
        · rw [if_pos hb, if_neg y, if_neg z3, if_neg (by omega)] at push
          exact push (tch t i) (i + 1) _ (by omega) (by omega) (by omega) rfl rfl
  refine yl_Lexer_quoted ?_
  unfold yb_Lexer_quoted
  refine zW_gI k0 rfl ?_
  rw [hT.2.1]
  have main : zW (YL C (d + 6) 625 [zr (X 0), .inl (a : Int), .inr (.inr (C.2.2.1 jj)), .inl (d0 : Int), .inl (a : Int), zr (X 0)] H) Q := by
    refine yl_Lexer_quoted_p17 ?_
    unfold yb_Lexer_quoted_p17
    refine zW_G (by omega) (zW_pI k0 (by decide) rfl (zW_new ?_))
    rw [if_neg (by decide), show (a : Int) + (d0 : Int) = ((a + d0 : Nat) : Int) by omega, ycs_s]
    have exS : yEx (fun _ => False) 1 4 (yput H 2404 (X 0) ((a + d0 : Nat) : Int)) (ymk (yput H 2404 (X 0) ((a + d0 : Nat) : Int)) 23 0 4) := yEx_mono (yEx_mk (c := 0) (s := 0) yEx_refl) (fun _ _ z => z) (by omega) (by omega)
    have kS : yK (ymk (yput H 2404 (X 0) ((a + d0 : Nat) : Int)) 23 0 4) (ynx H) = 23 := if_pos rfl
    have iS : ∀ f, yI (ymk (yput H 2404 (X 0) ((a + d0 : Nat) : Int)) 23 0 4) f (ynx H) = 0 := fun f => if_pos rfl
    have xS : ynx (ymk (yput H 2404 (X 0) ((a + d0 : Nat) : Int)) 23 0 4) = ynx H + 1 := rfl
    refine zW_V (P := fun H1 => SbY H1 (ynx H) (ynx H + 1) 16 [] ∧ yEx (fun x => x = ynx H) 1 16 (ymk (yput H 2404 (X 0) ((a + d0 : Nat) : Int)) 23 0 4) H1) (T := fun _ => False) (zW_c (zW_mono (y_sbInit (n := 16) (d := d + 4) hC (Nat.lt_succ_self _) kS (iS _) (iS _) (by omega)) ?_)) ?_ (fun _ q => q.elim)
    · rintro o H1 ⟨rfl, q⟩
      exact q
    · rintro H1 ⟨s1, x1⟩
      refine zW_let (loop (t.length + 1) (a + d0) [] H1 (ynx H + 1) 16 (by omega) hle s1 (by omega) (by show 0 + a + 1 ≤ a + d0; omega) (Nat.le_refl _) (by omega) ?_ rfl)
      exact yEx_mono (yEx_trans exS x1 (fun y hy q => by have hy : y < ynx H := hy; omega)) (fun _ _ z => z) (by show 1 + 1 ≤ 2 + 0; omega) (by omega)
  refine zW_svR (zW_if (fun z => ?_) (fun z => ?_))
  · have hk5 := hjj.mp z
    rw [show (2 : Int) = (d0 : Int) by omega]
    exact main
  · have hk5 : ¬ kd = 5 := fun w => z (hjj.mpr w)
    rw [show (1 : Int) = (d0 : Int) by omega]
    exact main
end YQuot
