set_option maxRecDepth 100000
/-! THE HOUSE'S PARSER: rules for its small steps -/
abbrev Et1 (η η1 : Et) : Prop := et η1 = et η ∧ eV η1 = eV η
abbrev Po (t : List Int) (σ σ1 : Ps) (n : Nat) : Prop := pc σ1 = pk σ ∧ pd σ1 = n ∧ pF σ1 = pF σ ∧ pmu t σ1 < pmu t σ ∧ pq σ ≤ pq σ1
section YRul2
variable {C : YC} {B P O : Nat → Prop} {X : Nat → Nat} {t : List Int} {Γ : Gm} {H H' : YS} {σ σ1 : Ps} {η η1 : Et} {M : List (Gt × Option Nat)} {g h g' h' : Int} {a e c s d dp n : Nat} {F : List (List Int × Int × Int)} {Q : Option (Option ZV) → YS → Prop} {r : (Int × Nat) ⊕ (Gt × Ps)} {f : Ps → PR}
theorem zW_pass {k : YS → ZR YS} (hd : 12 ≤ d) (S : SS C B X t Γ H σ η M g h) (h6 : (pc σ).1 ≠ 6) (hg : g ≤ 4000) (hh : h ≤ 4000) (he : pT (pPass t σ) f = some r) (her : ∀ e p H', r = .inl (e, p) → Th C B X t Γ H' e p → Q none H') (hk : ∀ σ1 H1 η1, SS C B X t Γ H1 σ1 η1 M (g - 30) (h - 200) → Pn t σ σ1 → Et1 η η1 → f σ1 = some r → zW (k H1) Q) : zW (zV (ycv (YL C) d [(6, 106)] (some (X 8)) [] H) k) Q := by
  obtain ⟨d, rfl⟩ : ∃ e, d = e + 1 := ⟨d - 1, by omega⟩
  rw [ycv_s (SS_8 S) ⟨by decide, rfl⟩]
  refine zW_V (zW_c (y_pass' (by omega) S h6 hg hh)) ?_ ?_
  · rintro H1 ⟨σ1, η1, e, S1, p, q⟩
    rw [e] at he
    have hw : 1 ≤ pw σ := by unfold pw; split <;> omega
    exact hk σ1 H1 η1 (SS_mono S1 (by omega) (by omega)) p q he
  · rintro H1 ⟨e, p, q, T⟩
    rw [q] at he
    exact her e p H1 (Option.some.inj he).symm T
theorem zW_tisK {k : Int → YS → ZR YS} (m j : Nat) (hj : j ∈ cstrs ∧ cstr j = kwd m) (hd : 3 ≤ d) (S : SS C B X t Γ H σ η M g h) (h1 : pIs σ m → zW (k 1 H) Q) (h0 : ¬ pIs σ m → zW (k 0 H) Q) : zW (ygR 1804 (some (X 8)) H fun v => zI (ycv (YL C) d [(22, 316)] v [.inr (.inr (some (C.1 j)))] H) k) Q := by
  obtain ⟨d, rfl⟩ : ∃ e, d = e + 3 := ⟨d - 3, by omega⟩
  obtain ⟨a, e, tk⟩ := SS_c S
  have hk := SS_tk S
  refine zW_gR (SS_8 S) rfl ?_
  rw [e, ycv_s tk.2.1 ⟨by decide, rfl⟩]
  refine zW_Ie (y_tokIs (SS_D S) (SS_W S) tk hk.1 (by omega) ((SS_F S).2 j hj.1)) ?_
  rw [hj.2]
  by_cases q : pIs σ m
  · rw [if_pos q]; exact h1 q
  · rw [if_neg q]; exact h0 q
theorem zW_tis {A D : YS → ZR YS} (m j : Nat) (hj : j ∈ cstrs ∧ cstr j = kwd m) (hd : 3 ≤ d) (S : SS C B X t Γ H σ η M g h) (h1 : pIs σ m → zW (D H) Q) (h0 : ¬ pIs σ m → zW (A H) Q) : zW (ygR 1804 (some (X 8)) H fun v => zI (ycv (YL C) d [(22, 316)] v [.inr (.inr (some (C.1 j)))] H) fun v h => if v = 0 then A h else D h) Q := zW_tisK m j hj hd S (fun q => zW_f (by decide) (h1 q)) (fun q => zW_t rfl (h0 q))
theorem zW_takesK {k : Int → YS → ZR YS} {e0 : PR} (m j : Nat) (hj : j ∈ cstrs ∧ cstr j = kwd m) (hd : 14 ≤ d) (S : SS C B X t Γ H σ η M g h) (hg : g ≤ 4000) (hh : h ≤ 4000) (he : (if pIs σ m then pT (pPass t σ) f else e0) = some r) (her : ∀ e p H', r = .inl (e, p) → Th C B X t Γ H' e p → Q none H') (h0 : ¬ pIs σ m → e0 = some r → zW (k 0 H) Q) (h1 : pIs σ m → ∀ σ1 H1 η1, SS C B X t Γ H1 σ1 η1 M (g - 30) (h - 200) → Pn t σ σ1 → Et1 η η1 → f σ1 = some r → zW (k 1 H1) Q) : zW (zI (ycv (YL C) d [(6, 108)] (some (X 8)) [.inr (.inr (some (C.1 j)))] H) k) Q := by
  obtain ⟨d, rfl⟩ : ∃ e, d = e + 4 := ⟨d - 4, by omega⟩
  have hk := SS_tk S
  have hs := (SS_F S).2 j hj.1
  rw [hj.2] at hs
  rw [ycv_s (SS_8 S) ⟨by decide, rfl⟩]
  by_cases q : pIs σ m
  · rw [if_pos q] at he
    refine zW_I (P := fun v H1 => v = 1 ∧ ∃ σ1 η1, pPass t σ = .inr σ1 ∧ SS C B X t Γ H1 σ1 η1 M (g + 50 - 80 * pw σ) (h + 300 - 500 * pw σ) ∧ Pn t σ σ1 ∧ et η1 = et η ∧ eV η1 = eV η) (T := fun H1 => ∃ e p, pPass t σ = .inl (e, p) ∧ Th C B X t Γ H1 e p) (zW_c (y_takes (d := d) (SS_D S) (SS_W S) (SS_P S) ⟨hk.1, by omega⟩ hs (fun w => absurd q w) (fun _ => zW_V (zW_c (y_pass' (by omega) S (by have := q.1; omega) hg hh)) (fun H1 w => zW_rN rfl ⟨rfl, w⟩) (fun H1 w => w)))) ?_ ?_
    · rintro v H1 ⟨rfl, σ1, η1, e, S1, p, w⟩
      rw [e] at he
      have hw : 1 ≤ pw σ := by unfold pw; split <;> omega
      exact h1 q σ1 H1 η1 (SS_mono S1 (by omega) (by omega)) p w he
    · rintro H1 ⟨e, p, w, T⟩
      rw [w] at he
      exact her e p H1 (Option.some.inj he).symm T
  · rw [if_neg q] at he
    refine zW_I (P := fun v H1 => v = 0 ∧ H1 = H) (T := fun _ => False) (zW_c (y_takes (d := d) (SS_D S) (SS_W S) (SS_P S) ⟨hk.1, by omega⟩ hs (fun _ => ⟨rfl, rfl⟩) (fun w => absurd w q))) ?_ (fun _ w => w.elim)
    rintro v H1 ⟨rfl, rfl⟩
    exact h0 q he
theorem zW_takes {A D : YS → ZR YS} {e0 : PR} (m j : Nat) (hj : j ∈ cstrs ∧ cstr j = kwd m) (hd : 14 ≤ d) (S : SS C B X t Γ H σ η M g h) (hg : g ≤ 4000) (hh : h ≤ 4000) (he : (if pIs σ m then pT (pPass t σ) f else e0) = some r) (her : ∀ e p H', r = .inl (e, p) → Th C B X t Γ H' e p → Q none H') (h0 : ¬ pIs σ m → e0 = some r → zW (A H) Q) (h1 : pIs σ m → ∀ σ1 H1 η1, SS C B X t Γ H1 σ1 η1 M (g - 30) (h - 200) → Pn t σ σ1 → Et1 η η1 → f σ1 = some r → zW (D H1) Q) : zW (zI (ycv (YL C) d [(6, 108)] (some (X 8)) [.inr (.inr (some (C.1 j)))] H) fun v h => if v = 0 then A h else D h) Q := zW_takesK m j hj hd S hg hh he her (fun q w => zW_t rfl (h0 q w)) (fun q σ1 H1 η1 a b c e => zW_f (by decide) (h1 q σ1 H1 η1 a b c e))
theorem zW_need {k : YS → ZR YS} (m j : Nat) (hj : j ∈ cstrs ∧ cstr j = kwd m) (hd : 15 ≤ d) (S : SS C B X t Γ H σ η M g h) (hg : g ≤ 4000) (hh : h ≤ 4000) (he : pNeed t m σ f = some r) (her : ∀ e p H', r = .inl (e, p) → Th C B X t Γ H' e p → Q none H') (hk : pIs σ m → ∀ σ1 H1 η1, SS C B X t Γ H1 σ1 η1 M (g - 30) (h - 200) → Pn t σ σ1 → Et1 η η1 → f σ1 = some r → zW (k H1) Q) : zW (zV (ycv (YL C) d [(6, 119)] (some (X 8)) [.inr (.inr (some (C.1 j)))] H) k) Q := by
  obtain ⟨d, rfl⟩ : ∃ e, d = e + 5 := ⟨d - 5, by omega⟩
  have hc := SS_tk S
  have hs := (SS_F S).2 j hj.1
  rw [hj.2] at hs
  rw [ycv_s (SS_8 S) ⟨by decide, rfl⟩]
  unfold pNeed at he
  by_cases q : pIs σ m
  · rw [if_pos q] at he
    refine zW_V (P := fun H1 => ∃ σ1 η1, pPass t σ = .inr σ1 ∧ SS C B X t Γ H1 σ1 η1 M (g + 50 - 80 * pw σ) (h + 300 - 500 * pw σ) ∧ Pn t σ σ1 ∧ et η1 = et η ∧ eV η1 = eV η) (T := fun H1 => ∃ e p, pPass t σ = .inl (e, p) ∧ Th C B X t Γ H1 e p) (zW_c (y_need (d := d) (SS_D S) (SS_W S) (SS_P S) (SS_F S) ⟨hc.1, by omega⟩ hs (fun w => absurd q w) (fun _ => zW_c (y_pass' (by omega) S (by have := q.1; omega) hg hh)))) ?_ ?_
    · rintro H1 ⟨σ1, η1, e, S1, p, w⟩
      rw [e] at he
      have hw : 1 ≤ pw σ := by unfold pw; split <;> omega
      exact hk q σ1 H1 η1 (SS_mono S1 (by omega) (by omega)) p w he
    · rintro H1 ⟨e, p, w, T⟩
      rw [w] at he
      exact her e p H1 (Option.some.inj he).symm T
  · rw [if_neg q] at he
    refine zW_V (P := fun _ => False) (T := fun H1 => Th C B X t Γ H1 2 (pc σ).2.1) (zW_c (y_need (d := d) (SS_D S) (SS_W S) (SS_P S) (SS_F S) ⟨hc.1, by omega⟩ hs (fun _ => Th_of S (by omega) (by omega)) (fun w => absurd w q))) (fun _ w => w.elim) (fun H1 w => her _ _ H1 (Option.some.inj he).symm w)
theorem zW_wr (hd : 3 ≤ d) (S : SS C B X t Γ H σ η M g h) (hg : g ≤ 4000) (hh : h ≤ 4000) (he : pWr σ = some r) (her : ∀ e p H', r = .inl (e, p) → Th C B X t Γ H' e p → Q none H') : zW (zQ (ycv (YL C) d [(6, 115)] (some (X 8)) [] H) fun v h => ythrow v h) Q := by
  obtain ⟨d, rfl⟩ : ∃ e, d = e + 2 := ⟨d - 2, by omega⟩
  exact zW_synt (SS_P S) (SS_F S) (her _ _ _ (Option.some.inj he).symm (Th_of S (by omega) (by omega)))
/-- how much is open -/
theorem SS_vl (S : SS C B X t Γ H σ η M g h) : (eV η).length ≤ pd σ + 1 := S.1.1.2.2.2.1.2.1.2
theorem SS_dp {n : Nat} (hn : n ≤ 40 ∧ (eV η).length ≤ n + 1) (S : SS C B X t Γ H σ η M g h) : ∃ η1, SS C B X t Γ (yput H 1806 (X 8) (n : Int)) (psd σ n) η1 M g h ∧ Et1 η η1 := by
  have S0 := S
  obtain ⟨⟨h0, h1, h2, ⟨KW, h3, h4⟩, h5, h7, h8⟩, L, E, hO, hg1, hh1, h9⟩ := S
  have ex : yEx (fun x => PL X H x ∨ x = X 8) 0 0 H (yput H 1806 (X 8) (n : Int)) := yEx_put yEx_refl (fun _ => Or.inr rfl)
  have im := Im_pl (B := B) (SS_F S0) (SS_8 S0)
  have exl : yEx (fun x => x = X 8) 0 0 H (yput H 1806 (X 8) (n : Int)) := yEx_put yEx_refl (fun _ => rfl)
  have tk : tkO C B X (yput H 1806 (X 8) (n : Int)) (psd σ n) := by
    obtain ⟨⟨x, q1, q2⟩, ⟨y, q3, q4⟩, q5⟩ := h1
    have im1 : Im B (fun x => x = X 8) H := ⟨fun x w => im.1 x (Or.inr w), fun x w => im.2 x (Or.inr w)⟩
    have nk : ∀ z k, TokY C B H z k → z ≠ X 8 := fun z k q w => (im1.2 z w q.1).1 q.2.1
    exact ⟨⟨x, q1, TokY_ex q2 exl im1.1 (nk _ _ q2)⟩, ⟨y, q3, TokY_ex q4 exl im1.1 (nk _ _ q4)⟩, q5⟩
  refine ⟨_, SS_pl (dp' := n) (cp := ec η) (tl := et η) S0 ex (Lf_put (by decide) (SS_F S0)) (fun _ _ q => q) h0.2.1.2.2.2.2.2 (fun _ _ _ => rfl) yput_at hn ((yput_f (by decide)).trans h0.2.2.2.1.2.2) ⟨rfl, rfl⟩ tk (Lt_put (by decide) h2) ⟨KW, LnY_put h3 (by decide), h4⟩ ((yput_f (by decide)).trans h5) h7 h8.1 (Nat.le_refl _) ?_ ?_ (SS_hm S0 (Nat.le_refl _)), rfl, rfl⟩
  · show (0 : Int) + _ + _ + _ ≤ 80 * (pq σ : Int) + (pi' σ : Int) + _; omega
  · show (0 : Int) + _ + _ + _ + _ ≤ 500 * (pq σ : Int) + 8 * (pi' σ : Int) + _ + _; omega
theorem pPass_psd {n : Nat} : pPass t (psd σ n) = match pPass t σ with
    | .inr σ1 => .inr (psd σ1 n)
    | .inl e => .inl e := by
  unfold pPass
  by_cases k6 : (pk σ).1 = 6
  · have k7 : (pk (psd σ n)).1 = 6 := k6
    rw [if_pos k7, if_pos k6]; rfl
  · have k7 : ¬ (pk (psd σ n)).1 = 6 := k6
    rw [if_neg k7, if_neg k6]
    show (match sRead t (pn σ) (pi' σ) with | .inl e => _ | .inr (k', j) => _) = _
    cases sRead t (pn σ) (pi' σ) with
    | inl e => rfl
    | inr q => rfl
theorem pmu_psd {n : Nat} : pmu t (psd σ n) = pmu t σ := rfl
theorem zW_opens {k : Int → YS → ZR YS} (hd : 13 ≤ d) (S : SS C B X t Γ H σ η M g h) (h6 : (pc σ).1 ≠ 6) (hg : g ≤ 4000) (hh : h ≤ 4000) (he : pOpens t σ f = some r) (her : ∀ e p H', r = .inl (e, p) → Th C B X t Γ H' e p → Q none H') (hk : pd σ < 40 → ∀ σ1 H1 η1, SS C B X t Γ H1 σ1 η1 M (g - 30) (h - 200) → Po t σ σ1 (pd σ + 1) → Et1 η η1 → f σ1 = some r → zW (k ((pc σ).2.1 : Int) H1) Q) : zW (zI (ycv (YL C) d [(6, 117)] (some (X 8)) [] H) k) Q := by
  obtain ⟨d, rfl⟩ : ∃ e, d = e + 2 := ⟨d - 2, by omega⟩
  rw [ycv_s (SS_8 S) ⟨by decide, rfl⟩]
  have dd := S.1.1.2.2.2.1
  unfold pOpens at he
  by_cases q : pd σ = 40
  · rw [if_pos q] at he
    refine zW_I (P := fun _ _ => False) (T := fun H1 => Th C B X t Γ H1 3 (pc σ).2.1) (zW_c (y_opens (d := d) (SS_P S) (SS_F S) (by omega) (fun _ => Th_of S (by omega) (by omega)) (fun w => by omega))) (fun _ _ w => w.elim) (fun H1 w => her _ _ H1 (Option.some.inj he).symm w)
  · rw [if_neg q] at he
    obtain ⟨η2, S2, q2⟩ := SS_dp (n := pd σ + 1) (by omega) S
    refine zW_I (P := fun v H1 => v = ((pc σ).2.1 : Int) ∧ ∃ σ1 η1, pPass t (psd σ (pd σ + 1)) = .inr σ1 ∧ SS C B X t Γ H1 σ1 η1 M (g + 50 - 80 * pw σ) (h + 300 - 500 * pw σ) ∧ Pn t (psd σ (pd σ + 1)) σ1 ∧ et η1 = et η2 ∧ eV η1 = eV η2) (T := fun H1 => ∃ e p, pPass t (psd σ (pd σ + 1)) = .inl (e, p) ∧ Th C B X t Γ H1 e p) (zW_c (y_opens (d := d) (SS_P S) (SS_F S) (by omega) (fun w => by omega) (fun w => ?_))) ?_ ?_
    · rw [dd.1, show (pd σ : Int) + 1 = ((pd σ + 1 : Nat) : Int) by omega]
      exact zW_V (zW_c (y_pass' (by omega) S2 h6 hg hh)) (fun H1 w => zW_rI ⟨rfl, w⟩) (fun H1 w => w)
    · rintro v H1 ⟨rfl, σ1, η1, e, S1, p, w⟩
      rw [e] at he
      have hw : 1 ≤ pw σ := by unfold pw; split <;> omega
      exact hk (by omega) σ1 H1 η1 (SS_mono S1 (by omega) (by omega)) ⟨p.1, p.2.1, p.2.2.1, p.2.2.2.1, p.2.2.2.2⟩ ⟨w.1.trans q2.1, w.2.trans q2.2⟩ he
    · rintro H1 ⟨e, p, w, T⟩
      rw [w] at he
      exact her e p H1 (Option.some.inj he).symm T
theorem zW_dec {k : YS → ZR YS} (hp : 0 < pd σ) (hV : (eV η).length ≤ pd σ) (S : SS C B X t Γ H σ η M g h) (hk : ∀ H1 η1, SS C B X t Γ H1 (psd σ (pd σ - 1)) η1 M g h → Et1 η η1 → zW (k H1) Q) : zW (ygI 1806 (some (X 8)) H fun v => zG (inI (v - 1)) (ypI 1806 0 (some (X 8)) (v - 1) H k)) Q := by
  have dd := S.1.1.2.2.2.1
  obtain ⟨η1, S1, q⟩ := SS_dp (n := pd σ - 1) (by omega) S
  refine zW_gI (SS_8 S) rfl (zW_G ?_ (zW_pI (SS_8 S) (by decide) rfl ?_))
  · rw [dd.1]
    have := dd.2.1
    omega
  · rw [dd.1, show (pd σ : Int) - 1 = ((pd σ - 1 : Nat) : Int) by omega]
    exact hk _ η1 S1 q
theorem zW_closes {k : YS → ZR YS} (m j : Nat) (hj : j ∈ cstrs ∧ cstr j = kwd m) (hp : 0 < pd σ) (hV : (eV η).length ≤ pd σ) (hd : 16 ≤ d) (S : SS C B X t Γ H σ η M g h) (hg : g ≤ 4000) (hh : h ≤ 4000) (he : pCloses t m σ f = some r) (her : ∀ e p H', r = .inl (e, p) → Th C B X t Γ H' e p → Q none H') (hk : pIs σ m → ∀ σ1 H1 η1, SS C B X t Γ H1 σ1 η1 M (g - 30) (h - 200) → Po t σ σ1 (pd σ - 1) → Et1 η η1 → f σ1 = some r → zW (k H1) Q) : zW (zV (ycv (YL C) d [(6, 118)] (some (X 8)) [.inr (.inr (some (C.1 j)))] H) k) Q := by
  obtain ⟨d, rfl⟩ : ∃ e, d = e + 1 := ⟨d - 1, by omega⟩
  rw [ycv_s (SS_8 S) ⟨by decide, rfl⟩]
  have he2 : pNeed t m σ (fun σ1 => f (psd σ1 (pd σ - 1))) = some r := by
    unfold pCloses at he
    unfold pNeed
    by_cases q : pIs σ m
    · rw [if_pos q] at he ⊢
      rw [pPass_psd] at he
      revert he
      cases pPass t σ with
      | inl e => exact fun z => z
      | inr σ1 => exact fun z => z
    · rw [if_neg q] at he ⊢; exact he
  refine zW_V (P := fun H1 => pIs σ m ∧ ∃ σ1 η1, SS C B X t Γ H1 σ1 η1 M (g - 30) (h - 200) ∧ Po t σ σ1 (pd σ - 1) ∧ Et1 η η1 ∧ f σ1 = some r) (T := fun H1 => Q none H1) (zW_c (yl_Parser_closes ?_)) (fun H1 ⟨q, σ1, η1, S1, p, w, e⟩ => hk q σ1 H1 η1 S1 p w e) (fun _ q => q)
  unfold yb_Parser_closes
  refine zW_need m j hj (by omega) S hg hh he2 her (fun q σ1 H1 η1 S1 p w e => ?_)
  rw [← p.2.1] at e
  refine zW_dec (by have := p.2.1; omega) (by have := p.2.1; rw [w.2]; omega) S1 (fun H2 η2 S2 w2 => zW_rV ⟨q, psd σ1 (pd σ1 - 1), η2, S2, ⟨p.1, by show pd σ1 - 1 = _; rw [p.2.1], p.2.2.1, p.2.2.2.1, p.2.2.2.2⟩, ⟨w2.1.trans w.1, w2.2.trans w.2⟩, e⟩)
end YRul2
