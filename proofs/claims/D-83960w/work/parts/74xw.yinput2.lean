set_option maxRecDepth 100000
/-! THE HOUSE'S PARSER: one input as a whole, its first two tokens, too (printed by gen/dsl/p74xw.py) -/
section YInp2
variable {C : YC} {B P O : Nat → Prop} {X : Nat → Nat} {t : List Int} {Γ : Gm} {H H' : YS} {σ σ1 : Ps} {η η' η1 : Et} {M : List (Gt × Option Nat)} {g h g' h' : Int} {a e c s d dp n cap N : Nat} {F F' : List (List Int × Int × Int)} {Q : Option (Option ZV) → YS → Prop} {r : (Int × Nat) ⊕ (Gt × Ps)} {l : List Gt} {θ : Gt} {w : Option Nat} {f : Ps → PR} {v : Ve} {V : List Ve}
theorem PBi_pl {cp : Nat} {tl : Bool} {L : List Nat} (h : PBi C B X H F η L) (hx : yEx (fun x => PL X H x ∨ x = X 8) c s H H') (hF : Lf C B X H') (hm : ∀ x, x < ynx H → PL X H' x → PL X H x) (hL : ∃ e, yR H' 1501 (X 5) = some e ∧ e < ynx H') (hr : ∀ f, f ≠ 1804 → f ≠ 1805 → yR H' f (X 8) = yR H f (X 8)) : PBi C B X H' F ((fun x => eO η x ∨ (ynx H ≤ x ∧ PL X H' x)), (cp, es η, ev η), tl, eV η) L := by
  obtain ⟨⟨a1, a2, a3, a4, a5, a6⟩, ⟨b1, b2, b3, b4, b5, b6⟩, ⟨c1, c2, c3, c4, c5, c6, c7, c8⟩, e1, ⟨f1, f2, f3, f4, f5⟩, g1, g2, O2, o1, o2⟩ := h
  have hn := hx.2.2.1
  have im := Im_pl a6 c2
  have n11 : ¬ (PL X H (X 11) ∨ X 11 = X 8) := by
    obtain ⟨k0, k1, k2, k3, k4, k5, k6, k7⟩ := a6.1.2.1
    rintro (q | q)
    · rcases q with q | q | q | q | q | ⟨q1, q2⟩
      · rw [q] at f2; omega
      · rw [q] at f2; omega
      · rw [q] at f2; omega
      · rw [q] at f2; omega
      · rw [q] at f2; omega
      · omega
    · rw [q] at f2; omega
  have s11 := hx.1 (X 11) f1 n11
  have plt : ∀ x, PL X H' x → x < ynx H' := by
    have lt := hF.1.1
    rintro x (q | q | q | q | q | ⟨q1, q2⟩)
    · rw [q]; exact lt 0 (by decide)
    · rw [q]; exact lt 3 (by decide)
    · rw [q]; exact lt 5 (by decide)
    · rw [q]; exact lt 6 (by decide)
    · rw [q]; exact lt 7 (by decide)
    · obtain ⟨e, w1, w2⟩ := hL
      rw [w1] at q1
      have := Option.some.inj q1
      omega
  refine ⟨⟨fun x q => ?_, fun x q => by have := a2 x q; omega, a3, a4, ⟨CE_ex a5.1 hx, KI_ex a5.2 hx im⟩, hF⟩, ⟨fun x q => ?_, Or.inl b2, Or.inl b3, Or.inl b4, Or.inl b5, hL⟩, ⟨by omega, (hx.2.1 _ c1).1.trans c2, (hr _ (by decide) (by decide)).trans c3, (hr _ (by decide) (by decide)).trans c4, (hr _ (by decide) (by decide)).trans c5, (hr _ (by decide) (by decide)).trans c6, (hr _ (by decide) (by decide)).trans c7, (hr _ (by decide) (by decide)).trans c8⟩, ImY_ex e1 hx im, ⟨by omega, (hx.2.1 _ f1).1.trans f2, (hx.2.1 _ f1).2.trans f3, f4, fun j hj => ?_⟩, g1, g2, O2, fun x q => ⟨Or.inl (o1 x q).1, fun w => (o1 x q).2.1 (hm x (a1 x (o1 x q).1) w), (o1 x q).2.2⟩, sep_ex hx im _ O2 (fun x q w => w.elim (o1 x q).2.1 (o1 x q).2.2.1) o2⟩
  · rcases q with q | q
    · have := a1 x q; omega
    · exact plt x q.2
  · by_cases w : x < ynx H
    · exact Or.inl (b1 x (hm x w q))
    · exact Or.inr ⟨by omega, q⟩
  · rw [s11.2.2.2]
    exact (f5 j hj).imp id (fun ⟨s, q1, q2⟩ => ⟨s, q1, StrY_ex q2 hx im.1⟩)
theorem PBi_o {O2 : Nat → Prop} {L : List Nat} (h : PBi C B X H F η L) (hd : yI H 1806 (X 8) = (dp : Int) ∧ dp ≤ 40) (ht0 : yI H 1807 (X 8) = bI (et η')) (hx : yEx P c s H H') (hP : ∀ x, P x → x < ynx H → ¬ PL X H x ∧ (yK H x = 5 ∨ yK H x = 1005 ∨ yK H x = 24 ∨ yK H x = 58)) (hO1 : ∀ x, eO η x → (PL X H x ∨ x = X 8 ∨ x = X 11 ∨ x = X 1 ∨ x = X 2) → eO η' x) (hO2 : ∀ x, eO η' x → x < ynx H') (hg : (es η' ≤ 1000000 ∧ ∀ f ∈ F', f.1.length ≤ 200) ∧ ev η' ≤ 1000000 ∧ ∀ v ∈ eV η', (v.2.1.1 = 24 ∨ v.2.1.1 = 58) ∧ v.2.2.2.1.1 ≤ 10 + 2 * v.2.2.1.1.length ∧ v.2.2.2.1.2 ≤ 10 + 2 * v.2.2.1.2.length) (hvl : (eV η').length ≤ dp + 1)
    (o1 : ∀ x, O2 x → eO η' x ∧ ¬ PL X H x ∧ x ≠ X 8 ∧ x ≠ X 11 ∧ x ≠ X 1 ∧ x ≠ X 2) (o2 : sep O2 ((ovM X F' η').map fun q => (YO C B H' q.1, q.2))) : PB0 C B X H' dp F' η' := by
  obtain ⟨⟨a1, a2, a3, a4, a5, a6⟩, ⟨b1, b2, b3, b4, b5, ea, b6, b7⟩, ⟨c1, c2, c3, c4, c5, c6, c7, c8⟩, e1, ⟨f1, f2, f3, f4, f5⟩, -, -, -⟩ := h
  have hn := hx.2.2.1
  have lt := a6.1.1
  obtain ⟨k0, k1, k2, k3, k4, k5, k6, k7⟩ := a6.1.2.1
  have im : Im B P H := by
    refine ⟨fun x q w => ?_, fun x q w => ?_⟩ <;> have := (hP x q w).2 <;> omega
  have nk : ∀ x, x < ynx H → yK H x ≠ 5 → yK H x ≠ 1005 → yK H x ≠ 24 → yK H x ≠ 58 → ¬ P x := fun x w w1 w2 w3 w4 q => by have := (hP x q w).2; omega
  have s5 := hx.1 (X 5) (lt 5 (by decide)) (fun q => (hP _ q (lt 5 (by decide))).1 (Or.inr (Or.inr (Or.inl rfl))))
  have s8 := hx.1 (X 8) c1 (nk _ c1 (by omega) (by omega) (by omega) (by omega))
  have s11 := hx.1 (X 11) f1 (nk _ f1 (by omega) (by omega) (by omega) (by omega))
  have pl : ∀ x, PL X H' x → PL X H x := by
    rintro x (q | q | q | q | q | ⟨q1, q2⟩)
    · exact Or.inl q
    · exact Or.inr (Or.inl q)
    · exact Or.inr (Or.inr (Or.inl q))
    · exact Or.inr (Or.inr (Or.inr (Or.inl q)))
    · exact Or.inr (Or.inr (Or.inr (Or.inr (Or.inl q))))
    · rw [s5.2.1, b6] at q1
      have := Option.some.inj q1
      subst this
      exact Or.inr (Or.inr (Or.inr (Or.inr (Or.inr ⟨b6, by rw [← (hx.2.1 ea b7).1]; exact q2⟩))))
  refine ⟨⟨hO2, fun x q => by have := a2 x q; omega, a3, a4, ⟨CE_ex a5.1 hx, KI_ex a5.2 hx im⟩, Lf_ex a6 hx im.1 (nk _ (lt 0 (by decide)) (by omega) (by omega) (by omega) (by omega)) (nk _ (lt 1 (by decide)) (by omega) (by omega) (by omega) (by omega)) (nk _ (lt 3 (by decide)) (by omega) (by omega) (by omega) (by omega))⟩, ⟨fun x q => hO1 x (b1 x (pl x q)) (Or.inl (pl x q)), hO1 _ b2 (Or.inr (Or.inl rfl)), hO1 _ b3 (Or.inr (Or.inr (Or.inl rfl))), hO1 _ b4 (Or.inr (Or.inr (Or.inr (Or.inl rfl)))), hO1 _ b5 (Or.inr (Or.inr (Or.inr (Or.inr rfl)))), ea, (s5.2.1 _).trans b6, by omega⟩, ⟨by omega, (hx.2.1 _ c1).1.trans c2, (s8.2.1 _).trans c3, (s8.2.1 _).trans c4, (s8.2.1 _).trans c5, (s8.2.1 _).trans c6, (s8.2.1 _).trans c7, (s8.2.1 _).trans c8⟩, ⟨(s8.1 _).trans hd.1, ⟨hd.2, hvl⟩, (s8.1 _).trans ht0⟩, ImY_ex e1 hx im, ⟨by omega, (hx.2.1 _ f1).1.trans f2, (hx.2.1 _ f1).2.trans f3, f4, fun j hj => ?_⟩, hg, O2, fun x q => ⟨(o1 x q).1, fun w => (o1 x q).2.1 (pl x w), (o1 x q).2.2⟩, o2⟩
  rw [s11.2.2.2]
  exact (f5 j hj).imp id (fun ⟨s, q1, q2⟩ => ⟨s, q1, StrY_ex q2 hx im.1⟩)
/-- what is open between the first tokens -/
def PJ (C : YC) (B : Nat → Prop) (X : Nat → Nat) (t : List Int) (H0 : YS) (η0 : Et) (F : List (List Int × Int × Int)) (n j : Nat) (KW : List (List Int)) (A D : Int) (H : YS) (η : Et) : Prop :=
  PB0 C B X H 0 F η ∧ (et η = false ∧ eV η = [] ∧ es η = es η0 ∧ ev η = ev η0) ∧ Lt X H t j ∧ LnY B X H KW (ec η) ∧ yI H 2405 (X 0) = (n : Int) ∧ yEx (eO η0) (ynx H - ynx H0) (ysl H - ysl H0) H0 H ∧ (∀ x, x < ynx H0 → eO η x → eO η0 x) ∧ ((ynx H : Int) ≤ ynx H0 + j + A ∧ (ysl H : Int) + 4 * ec η0 ≤ ysl H0 + 4 * ec η + 8 * j + D)
abbrev GI (H0 : YS) (η0 : Et) : Gm := (H0, eO η0, -(ynx H0 : Int), -(ysl H0 : Int) + 4 * ((ec η0 : Int) + es η0 + ev η0), 0)
variable {H0 : YS} {η0 : Et} {A D : Int} {j i : Nat} {KW KW' : List (List Int)}
theorem yEx_al (hO : ∀ x, x < ynx H0 → eO η x → eO η0 x) (E : yEx (eO η0) (ynx H - ynx H0) (ysl H - ysl H0) H0 H) (hx : yEx P c s H H') (hP : ∀ x, x < ynx H → P x → eO η x) : yEx (eO η0) (ynx H' - ynx H0) (ysl H' - ysl H0) H0 H' := yEx_all (yEx_trans E hx (fun x q w => hO x q (hP x (Nat.lt_of_lt_of_le q E.2.2.1) w)))
theorem PJ_w {f : Nat} {w : Option Nat} (hf : f = 1804 ∨ f = 1805) (h : PJ C B X t H0 η0 F n j KW A D H η) : ∃ η1, PJ C B X t H0 η0 F n j KW A D (yputR H f (X 8) w) η1 ∧ ∀ k z, TokY C B H k z → TokY C B (yputR H f (X 8) w) k z := by
  obtain ⟨h0, hη, h2, h3, h5, E, hO, hN⟩ := h
  have hF := h0.1.2.2.2.2.2
  have k8 := h0.2.2.1
  have lt := hF.1.1
  have n8 : ∀ k, k < 8 → X k ≠ X 8 := by
    intro k hk q
    obtain ⟨k0, k1, k2, k3, k4, k5, k6, k7⟩ := hF.1.2.1
    have hk : k = 0 ∨ k = 1 ∨ k = 2 ∨ k = 3 ∨ k = 4 ∨ k = 5 ∨ k = 6 ∨ k = 7 := by omega
    have := congrArg (yK H) q
    rcases hk with rfl | rfl | rfl | rfl | rfl | rfl | rfl | rfl <;> omega
  have ex : yEx (fun x => PL X H x ∨ x = X 8) 0 0 H (yputR H f (X 8) w) := yEx_putR yEx_refl (fun _ => Or.inr rfl)
  have exl : yEx (fun x => x = X 8) 0 0 H (yputR H f (X 8) w) := yEx_putR yEx_refl (fun _ => rfl)
  have im1 : Im B (fun x => x = X 8) H := by
    have := Im_pl (B := B) hF k8.2.1
    exact ⟨fun x w => this.1 x (Or.inr w), fun x w => this.2 x (Or.inr w)⟩
  have F1 := Lf_ex hF exl im1.1 (n8 0 (by decide)) (n8 1 (by decide)) (n8 3 (by decide))
  have N1 := LnY_ex hF h3 exl im1.1 (n8 5 (by decide)) (n8 6 (by decide)) (n8 7 (by decide)) (fun e _ q z => by rw [z] at q; omega)
  have T1 := Lt_ex hF h2 exl (n8 0 (by decide)) (n8 2 (by decide))
  have r5 : yR (yputR H f (X 8) w) 1501 (X 5) = yR H 1501 (X 5) := yputR_f (by omega)
  have p0 := PB0_pl (dp' := 0) (cp := ec η) (tl := et η) h0 ex F1 (PL_ex hF exl (n8 5 (by decide))) (by obtain ⟨e, w1, w2⟩ := h0.2.1.2.2.2.2.2; exact ⟨e, r5.trans w1, w2⟩) (fun g w1 w2 => yputR_f (by omega)) h0.2.2.2.1.1 h0.2.2.2.1.2.1 h0.2.2.2.1.2.2
  have hp : ∀ x, x < ynx H → (PL X H x ∨ x = X 8) → eO η x := fun x _ w => w.elim (h0.2.1.1 x) (fun w => by rw [w]; exact h0.2.1.2.1)
  refine ⟨_, ⟨p0, hη, T1, N1, h5, yEx_al hO E ex hp, fun x q w => ?_, hN⟩, fun k z q => TokY_ex q exl im1.1 (fun w => by have := q.2.1; rw [w] at this; omega)⟩
  have := E.2.2.1
  exact w.elim (hO x q) (fun w => by have := w.1; omega)
theorem PJ_n (h : PJ C B X t H0 η0 F n j KW A D H η) (hKW : KW.length ≤ n) (hn2 : n ≤ 1000) (hA : A ≤ 2000) (hD : D ≤ 2000) (hh0 : ∀ (e : Int) p H', sRead t n j = .inl (e, p) → Th C B X t (GI H0 η0) H' e p → Q none H')
    (hk : ∀ k j' H' η1 tk KW', sRead t n j = .inr (k, j') → PJ C B X t H0 η0 F (n + (if k.1 = 6 then 0 else 1)) j' KW' (A + 50) (D + 300) H' η1 → KW'.length ≤ KW.length + 1 → TokY C B H' tk k → (∀ a z, TokY C B H a z → TokY C B H' a z) → (∀ f, yR H' f (X 8) = yR H f (X 8)) → Q (some (some (.inr (.inr (some tk))))) H') :
    zW (YL C (d + 10) 170 [zr (X 0)] H) Q := by
  obtain ⟨h0, hη, h2, h3, h5, E, hO, hN⟩ := h
  have hF := h0.1.2.2.2.2.2
  have k8 := h0.2.2.1
  have lt := hF.1.1
  have P8 : ¬ PL X H (X 8) := PL_22 hF (Or.inr k8.2.1)
  have hp : ∀ x, x < ynx H → (PL X H x ∨ x = X 8) → eO η x := fun x _ w => w.elim (h0.2.1.1 x) (fun w => by rw [w]; exact h0.2.1.2.1)
  have imp := Im_pl (B := B) hF k8.2.1
  have im1 : Im B (PL X H) H := ⟨fun x w => imp.1 x (Or.inl w), fun x w => imp.2 x (Or.inl w)⟩
  have hn0 := E.2.2.1
  refine y_next (fun q => absurd (h0.1.2.2.1 4 5 (by decide) (by decide) q) (by decide)) h0.1.2.2.2.1 h0.1.2.2.2.2.1.1 h0.1.2.1 hF h2 h3 hKW h5 hn2 (fun k j' r H' q1 q2 => ?_) (fun e p H' q1 q2 => ?_)
  · have hin := sRead_in h2.2.2.1 h2.2.2.2.1 q1
    obtain ⟨tk, KW', cap', rfl, p2, p3, p4, p5, p6, p7, p8, p9, p10⟩ := q2
    have s8 := p9.1 (X 8) k8.1 P8
    have exw : yEx (fun x => PL X H x ∨ x = X 8) (50 + (j' - k.2.1)) (300 + 8 * (j' - k.2.1) + 4 * (cap' - ec η)) H H' := yEx_mono p9 (fun _ _ z => Or.inl z) (Nat.le_refl _) (Nat.le_refl _)
    have hL : ∃ e, yR H' 1501 (X 5) = some e ∧ e < ynx H' := by
      obtain ⟨e, KA, al, -⟩ := p5.2
      exact ⟨e, al.2.2.1, al.2.2.2.2.2.1⟩
    have p0 := PB0_pl (dp' := 0) (cp := cap') (tl := et η) h0 exw p3 p10 hL (fun f _ _ => s8.2.1 f) ((s8.1 _).trans h0.2.2.2.1.1) h0.2.2.2.1.2.1 ((s8.1 _).trans h0.2.2.2.1.2.2)
    have hcs := p9.2.2.2
    refine hk k j' H' _ tk KW' q1 ⟨p0, hη, p4, p5, p8, yEx_al hO E exw hp, fun x q w => ?_, ?_, ?_⟩ p6 p2 (fun a z q => TokY_ex q p9 im1.1 (fun w => (im1.2 a w q.1).1 q.2.1)) (fun f => s8.2.1 f)
    · exact w.elim (hO x q) (fun w => by have := w.1; omega)
    · show (ynx H' : Int) ≤ _
      omega
    · show (ysl H' : Int) + _ ≤ _ + 4 * (cap' : Int) + _ + _
      omega
  · obtain ⟨KW', cap', j', p1, p2, p3, p4, p5, p6, p7, p8, p9⟩ := q2
    have s8 := p8.1 (X 8) k8.1 P8
    have exw : yEx (fun x => PL X H x ∨ x = X 8) (50 + t.length) (300 + 8 * t.length + 4 * (cap' - ec η)) H H' := yEx_mono p8 (fun _ _ z => Or.inl z) (Nat.le_refl _) (Nat.le_refl _)
    have hL : ∃ e, yR H' 1501 (X 5) = some e ∧ e < ynx H' := by
      obtain ⟨e, KA, al, -⟩ := p3.2
      exact ⟨e, al.2.2.1, al.2.2.2.2.2.1⟩
    have p0 := PB0_pl (dp' := 0) (cp := cap') (tl := et η) h0 exw p1 p9 hL (fun f _ _ => s8.2.1 f) ((s8.1 _).trans h0.2.2.2.1.1) h0.2.2.2.1.2.1 ((s8.1 _).trans h0.2.2.2.1.2.2)
    have hcs := p8.2.2.2
    have hjt := h2.2.2.2.1
    refine hh0 e p H' q1 ⟨0, F, _, j', KW', p0, p2, p3, by omega, p6, p7, yEx_al hO E exw hp, fun x q w => ?_, ?_, ?_⟩
    · have q : x < ynx H0 := q
      exact w.elim (hO x q) (fun w => by have := w.1; omega)
    · show (ynx H' : Int) + -(ynx H0 : Int) ≤ _
      omega
    · show (ysl H' : Int) + (-(ysl H0 : Int) + 4 * ((ec η0 : Int) + es η0 + ev η0)) ≤ _ + 4 * ((cap' : Int) + es η + ev η) + _
      have := hη.2.2.1
      have := hη.2.2.2
      omega
theorem SS_PJ {k k' : Tok} {m j : Nat} (h : PJ C B X t H0 η0 F m j KW A D H η) (hK : KW.length ≤ m + (if k'.1 = 6 then 1 else 0)) (hm : m ≤ 1000) (h1 : ∃ a, yR H 1804 (X 8) = some a ∧ TokY C B H a k) (h2 : ∃ a, yR H 1805 (X 8) = some a ∧ TokY C B H a k') (hk : (k.1 ≤ 6 ∧ k'.1 ≤ 6 ∧ k.2.2.1.length ≤ 200 ∧ k'.2.2.1.length ≤ 200)) (hq : k.2.1 + tlen k ≤ k'.2.1 ∧ k'.2.1 + tlen k' ≤ j) (hFl : F.length ≤ 100000) : SS C B X t (GI H0 η0) H (k, k', m, j, 0, F, 0) η [] A D := by
  obtain ⟨h0, hη, h2', h3, h5, E, hO, hN⟩ := h
  obtain ⟨e1, e2, e3, e4⟩ := hη
  refine ⟨⟨h0, ⟨h1, h2, hk⟩, h2', ⟨KW, h3, hK⟩, h5, hm, ⟨⟨Nat.zero_le _, hq⟩, hFl⟩⟩, Lv_nil, E, hO, ?_, ?_, ?_, Nat.zero_le _, ?_⟩
  · rw [e2]
    show (ynx H : Int) + -(ynx H0 : Int) + ((0 : Nat) : Int) ≤ 80 * ((0 : Nat) : Int) + (j : Int) + A
    omega
  · rw [e2]
    show (ysl H : Int) + (-(ysl H0 : Int) + 4 * ((ec η0 : Int) + es η0 + ev η0)) + 0 ≤ 500 * ((0 : Nat) : Int) + 8 * (j : Int) + 4 * ((ec η : Int) + es η + ev η) + D
    omega
  · rw [e2]
    exact Nat.zero_le _
  · rw [e1]
    exact ⟨(fun z => by cases z), (fun z => absurd z (show ¬ 5 ≤ (0 : Nat) by decide))⟩
theorem y_input {n i : Nat} {L : List Nat} (hlen : t.length ≤ 900) (P : PBi C B X H F η L) (hT : Lt X H t i) (hN : LnY B X H KW (ec η)) (hFl : F.length ≤ 100000) (h0 : YCf C B X t (sP t n 0 [] []) 140 10 ho okEx) (h41 : ∀ n', n' < n → YDc C B X t (sP t n' 41 [] [])) (hd : 3700 ≤ d) (he : sIn t F n = some r) (her : ∀ e p H', r = .inl (e, p) → Th C B X t (GI H η) H' e p → Q none H')
    (hk : ∀ τ σ1 H1 a, r = .inr (τ, σ1) → PFin C B X t (GI H η) H1 (pF σ1) [(ho (gn 63 [] (gs τ)), some a)] → Q (some (some (.inr (.inr (some a))))) H1) : zW (YL C d 101 [zr (X 8)] H) Q := by
  obtain ⟨d, rfl⟩ : ∃ e, d = e + 20 := ⟨d - 20, by omega⟩
  have hF := P.1.2.2.2.2.2
  have k8 := P.2.2.1
  obtain ⟨x0, x1, x2, x3, x4, x5, x6, x7⟩ := hF.1.2.1
  obtain ⟨eN, KA, al, -⟩ := hN.2
  refine yl_Parser_input ?_
  unfold yb_Parser_input
  refine zW_gR k8.2.1 rfl ?_
  rw [k8.2.2.2.1, ycv_s x0 ⟨by decide, rfl⟩]
  refine zW_V (P := fun H1 => Lf C B X H1 ∧ Lt X H1 t 0 ∧ LnY B X H1 [] (ec η) ∧ yI H1 2405 (X 0) = 0 ∧ yEx (PL X H) 0 0 H H1 ∧ ynx H1 = ynx H ∧ ∀ x, x < ynx H → PL X H1 x → PL X H x) (T := fun _ => False) (zW_c (y_begin hF hT al hN.1)) ?_ (fun _ q => q.elim)
  rintro H1 ⟨F1, T1, N1, z1, ex1, n1, M1⟩
  have k81 : yK H1 (X 8) = 6 := (ex1.2.1 _ k8.1).1.trans k8.2.1
  have s8 := ex1.1 (X 8) k8.1 (PL_22 hF (Or.inr k8.2.1))
  refine zW_pI k81 (by decide) rfl (zW_pI (by exact k81) (by decide) rfl (zW_gR (by exact k81) rfl ?_))
  have hm2 : ∀ x, x < ynx H → PL X (yput (yput H1 1806 (X 8) 0) 1807 (X 8) 0) x → PL X H x := M1
  have ex2 : yEx (fun x => PL X H x ∨ x = X 8) 0 0 H (yput (yput H1 1806 (X 8) 0) 1807 (X 8) 0) := yEx_put (yEx_put (yEx_mono ex1 (fun _ _ z => Or.inl z) (Nat.le_refl _) (Nat.le_refl _)) (fun _ => Or.inr rfl)) (fun _ => Or.inr rfl)
  have F2 := Lf_put (f := 1807) (x := X 8) (v := 0) (by decide) (Lf_put (f := 1806) (x := X 8) (v := 0) (by decide) F1)
  have T2 := Lt_put (f := 1807) (x := X 8) (v := 0) (by decide) (Lt_put (f := 1806) (x := X 8) (v := 0) (by decide) T1)
  have N2 := LnY_put (a := X 8) (f := 1807) (v := 0) (LnY_put (a := X 8) (f := 1806) (v := 0) N1 (by decide)) (by decide)
  have z2 : yI (yput (yput H1 1806 (X 8) 0) 1807 (X 8) 0) 2405 (X 0) = 0 := (yput_f (by decide)).trans ((yput_f (by decide)).trans z1)
  have d2 : yI (yput (yput H1 1806 (X 8) 0) 1807 (X 8) 0) 1806 (X 8) = 0 := (yput_f (by decide)).trans yput_at
  have d3 : yI (yput (yput H1 1806 (X 8) 0) 1807 (X 8) 0) 1807 (X 8) = 0 := yput_at
  have hL2 : ∃ e, yR (yput (yput H1 1806 (X 8) 0) 1807 (X 8) 0) 1501 (X 5) = some e ∧ e < ynx (yput (yput H1 1806 (X 8) 0) 1807 (X 8) 0) := by
    obtain ⟨e, KA, al, -⟩ := N2.2
    exact ⟨e, al.2.2.1, al.2.2.2.2.2.1⟩
  have hr2 : ∀ f, f ≠ 1804 → f ≠ 1805 → yR (yput (yput H1 1806 (X 8) 0) 1807 (X 8) 0) f (X 8) = yR H f (X 8) := fun f _ _ => s8.2.1 f
  have n2 : ynx (yput (yput H1 1806 (X 8) 0) 1807 (X 8) 0) = ynx H := n1
  have r83 : yR (yput (yput H1 1806 (X 8) 0) 1807 (X 8) 0) 1803 (X 8) = some (X 10) := (s8.2.1 _).trans k8.2.2.2.2.2.1
  rw [r83]
  generalize yput (yput H1 1806 (X 8) 0) 1807 (X 8) 0 = H2 at *
  have P2 := PBi_pl (cp := ec η) (tl := false) P ex2 F2 hm2 hL2 hr2
  obtain ⟨O2, o1, GA, GB, g1, g2, g3, g4, GC, GD, m1, m2, m3, m4, -⟩ := P2.2.2.2.2.2.2.2
  have m4 : YO C B H2 (oC (ev η) (L.map oA)) GC (some (X 10)) := m4
  obtain ⟨a', e10, xs, ha, ga, A10, ge, hl10, -⟩ := YO_lst' m4
  cases ha
  have cv := P.2.2.2.2.2.2.1
  obtain ⟨y0, y1, y2, y3, y4, y5, y6, y7⟩ := F2.1.2.1
  have lt2 := F2.1.1
  rw [ycv_s A10.2.1 ⟨by decide, rfl⟩]
  refine zW_V (P := fun H3 => AlY H3 (X 10) e10 (ev η) [] ∧ yEx (PA H2 (X 10) e10) 0 0 H2 H3 ∧ ynx H3 = ynx H2) (T := fun _ => False) (zW_c (zW_mono (y_alClear A10 (by omega)) ?_)) ?_ (fun _ q => q.elim)
  · rintro o H3 ⟨rfl, q⟩
    exact q
  rintro H3 ⟨A3, ex3, n3⟩
  have GCx : ∀ x, PA H2 (X 10) e10 x → GC x := fun x q => q.elim (fun q => by rw [q]; exact ga) (fun q => by rw [q.1]; exact ge q.2)
  have hP3 : ∀ x, PA H2 (X 10) e10 x → x < ynx H2 → ¬ PL X H2 x ∧ (yK H2 x = 5 ∨ yK H2 x = 1005 ∨ yK H2 x = 24 ∨ yK H2 x = 58) := fun x q _ => ⟨(o1 x (g2 x (m1 x (GCx x q)))).2.1, q.elim (fun q => Or.inl (by rw [q]; exact A10.2.1)) (fun q => Or.inr (Or.inl (by rw [q.1]; exact q.2)))⟩
  have im3 : Im B (PA H2 (X 10) e10) H2 := by
    refine ⟨fun x q w => ?_, fun x q w => ?_⟩ <;> have := (hP3 x q w).2 <;> omega
  have B3 := PBi_o (dp := 0) (F' := F) (η' := (fun x => eO η x ∨ (ynx H ≤ x ∧ PL X H2 x), (ec η, es η, ev η), false, [])) (O2 := O2) P2 ⟨d2, by decide⟩ d3 ex3 hP3 (fun _ q _ => q) (fun x q => by rw [n3]; exact P2.1.1 x q) ⟨P.2.2.2.2.2.1, cv, fun v q => by cases q⟩ (Nat.zero_le _) (fun x q => ⟨(o1 x q).1, (o1 x q).2⟩) ⟨GA, GB, g1, g2, g3, (show YO C B H3 (oC (es η) (stT F)) GA (some (X 9)) from YO_ex ex3 im3 (oC (es η) (stT F)) GA (some (X 9)) (fun x q w => g3 x q (m1 x (GCx x w))) g4), GC, fun _ => False, m1, fun _ q => q.elim, fun _ _ q => q, YO_lst ga A3 (fun q => ge (by rw [← (ex3.2.1 e10 A10.2.2.2.2.2.1).1]; exact q)) rfl trivial, trivial⟩
  have nk : ∀ x, x < ynx H2 → yK H2 x ≠ 5 → yK H2 x ≠ 1005 → yK H2 x ≠ 24 → yK H2 x ≠ 58 → ¬ PA H2 (X 10) e10 x := fun x w w1 w2 w3 w4 q => by have := (hP3 x q w).2; omega
  have nL : ∀ x, x < ynx H2 → PL X H2 x → ¬ PA H2 (X 10) e10 x := fun x w w1 q => (hP3 x q w).1 w1
  have n0 := nL _ (lt2 0 (by decide)) (Or.inl rfl)
  have T3 := Lt_ex F2 T2 ex3 n0 (nk _ (lt2 2 (by decide)) (by omega) (by omega) (by omega) (by omega))
  have N3 := LnY_ex F2 N2 ex3 im3.1 (nL _ (lt2 5 (by decide)) (Or.inr (Or.inr (Or.inl rfl)))) (nL _ (lt2 6 (by decide)) (Or.inr (Or.inr (Or.inr (Or.inl rfl))))) (nL _ (lt2 7 (by decide)) (Or.inr (Or.inr (Or.inr (Or.inr (Or.inl rfl)))))) (fun e q1 q2 => by
    obtain ⟨ea, q3, q4⟩ := hL2
    rw [q3] at q1
    have := Option.some.inj q1
    subst this
    exact nL _ q4 (Or.inr (Or.inr (Or.inr (Or.inr (Or.inr ⟨q3, q2⟩))))))
  have z3 : yI H3 2405 (X 0) = 0 := ((ex3.1 (X 0) (lt2 0 (by decide)) n0).1 2405).trans z2
  have hpe : ∀ x, x < ynx H → (PL X H x ∨ x = X 8) → eO η x := fun x _ w => w.elim (P.2.1.1 x) (fun w => by rw [w]; exact P.2.1.2.1)
  have E2 : yEx (eO η) 0 0 H H2 := yEx_mono ex2 hpe (Nat.le_refl _) (Nat.le_refl _)
  have E3 : yEx (eO η) (0 + 0) (0 + 0) H H3 := yEx_trans E2 ex3 (fun x q w => (o1 x (g2 x (m1 x (GCx x w)))).1.elim id (fun w => by omega))
  have hcs := E3.2.2.2
  have J : PJ C B X t H η F 0 0 [] 0 0 H3 (fun x => eO η x ∨ (ynx H ≤ x ∧ PL X H2 x), (ec η, es η, ev η), false, []) := ⟨B3, ⟨rfl, rfl, rfl, rfl⟩, T3, N3, z3, yEx_all E3, fun x q w => w.elim id (fun w => by omega), by omega, by show (ysl H3 : Int) + 4 * (ec η : Int) ≤ (ysl H : Int) + 4 * (ec η : Int) + 8 * ((0 : Nat) : Int) + 0; omega⟩
  have k83 := B3.2.2.1
  refine zW_gR k83.2.1 rfl ?_
  rw [k83.2.2.2.1, ycv_s B3.1.2.2.2.2.2.1.2.1.1 ⟨by decide, rfl⟩]
  unfold sIn gStart at he
  refine zW_Q (P := fun v H4 => ∃ k j' η1 tk KW', v = some tk ∧ sRead t 0 0 = .inr (k, j') ∧ PJ C B X t H η F (0 + (if k.1 = 6 then 0 else 1)) j' KW' (0 + 50) (0 + 300) H4 η1 ∧ KW'.length ≤ ([] : List (List Int)).length + 1 ∧ TokY C B H4 tk k) (T := fun H4 => Q none H4) (zW_c (PJ_n (d := d + 9) J (Nat.zero_le _) (by decide) (by decide) (by decide) (fun e p H' q T => ?_) (fun k j' H' η1 tk KW' q1 q2 q3 q4 _ _ => ⟨k, j', η1, tk, KW', rfl, q1, q2, q3, q4⟩))) ?_ (fun _ q => q)
  · rw [q] at he
    exact her e p H' (Option.some.inj he).symm T
  rintro v H4 ⟨k, j', η4, tk, KW4, rfl, q1, J4, l4, t4⟩
  rw [q1] at he
  have hin := sRead_in hT.2.2.1 (Nat.zero_le _) q1
  have hsh := sRead_short hT.2.2.1 q1
  have hvr := sRead_var hT.2.2.1 (Nat.zero_le _) q1
  have tl4 : k.2.1 + tlen k ≤ j' := by
    unfold tlen
    split
    · next w => exact hvr w
    · split
      · omega
      · next w => have := hin.2.2.2.2 w; omega
  have lz : ([] : List (List Int)).length = 0 := rfl
  obtain ⟨η5, J5, tt5⟩ := PJ_w (f := 1804) (w := some tk) (Or.inl rfl) J4
  have t5 := tt5 _ _ t4
  have k85 := J5.1.2.2.1
  refine zW_pR (by exact J4.1.2.2.1.2.1) (by decide) (zW_gR (by exact k85.2.1) rfl ?_)
  rw [yputR_at]
  refine zW_gR t5.2.1 rfl (zW_svR ?_)
  rw [t5.2.2.1]
  by_cases k6 : k.1 = 6
  · refine zW_t (by rw [k6]; rfl) (zW_gR (by exact k85.2.1) rfl ?_)
    rw [yputR_at]
    have he : gInput t (sP t n) (k, k, 0, j', 0, F, 0) = some r := by
      have he : pT (if k.1 = 6 then .inr (k, k, 0, j', 0, F, 0) else match sRead t 1 j' with | .inl e => .inl e | .inr (k', j'') => .inr (k, k', 1 + (if k'.1 = 6 then 0 else 1), j'', 0, F, 0)) (fun σ => gInput t (sP t n) σ) = some r := he
      rw [if_pos k6] at he
      exact he
    have tk0 : tlen k = 0 := by unfold tlen; rw [k6]; rfl
    rw [if_pos k6] at J5
    obtain ⟨η6, J6, tt6⟩ := PJ_w (f := 1805) (w := some tk) (Or.inr rfl) J5
    refine yl_Parser_input_p63 ?_
    unfold yb_Parser_input_p63
    refine zW_pR (by exact k85.2.1) (by decide) ?_
    have S := SS_PJ J6 (k := k) (k' := k) (by rw [if_pos k6]; omega) (by decide) ⟨tk, (yputR_f (by decide)).trans yputR_at, tt6 _ _ t5⟩ ⟨tk, yputR_at, tt6 _ _ t5⟩ ⟨hsh.1, hsh.1, hsh.2, hsh.2⟩ ⟨by omega, by omega⟩ hFl
    exact y_inBody h0 h41 hlen S rfl J6.2.1.2.1 (by omega) (by omega) (by unfold dep pmu; rw [if_pos k6]; show 40 * (41 - 0) + 2 * 0 + 40 ≤ _; omega) he her hk
  · have nk6 : ¬ tkK C k.1 = C.2.2.1 3 := fun q => k6 (P.1.2.2.1 k.1 6 hsh.1 (by decide) q)
    have he : pT (match sRead t 1 j' with | .inl e => .inl e | .inr (k', j'') => .inr (k, k', 1 + (if k'.1 = 6 then 0 else 1), j'', 0, F, 0)) (fun σ => gInput t (sP t n) σ) = some r := by
      have he : pT (if k.1 = 6 then .inr (k, k, 0, j', 0, F, 0) else match sRead t 1 j' with | .inl e => .inl e | .inr (k', j'') => .inr (k, k', 1 + (if k'.1 = 6 then 0 else 1), j'', 0, F, 0)) (fun σ => gInput t (sP t n) σ) = some r := he
      rw [if_neg k6] at he
      exact he
    rw [if_neg k6] at J5
    refine zW_f nk6 (zW_gR (by exact k85.2.1) rfl ?_)
    rw [k85.2.2.2.1, ycv_s J5.1.1.2.2.2.2.2.1.2.1.1 ⟨by decide, rfl⟩]
    refine zW_Q (P := fun v H6 => ∃ k' j'' η1 tk' KW', v = some tk' ∧ sRead t 1 j' = .inr (k', j'') ∧ PJ C B X t H η F (0 + 1 + (if k'.1 = 6 then 0 else 1)) j'' KW' (0 + 50 + 50) (0 + 300 + 300) H6 η1 ∧ KW'.length ≤ KW4.length + 1 ∧ TokY C B H6 tk' k' ∧ TokY C B H6 tk k ∧ yR H6 1804 (X 8) = some tk) (T := fun H4 => Q none H4) (zW_c (PJ_n (d := d + 9) J5 (by omega) (by decide) (by decide) (by decide) (fun e p H' q T => ?_) (fun k' j'' H' η1 tk' KW' q1 q2 q3 q4 q5 q6 => ⟨k', j'', η1, tk', KW', rfl, q1, q2, q3, q4, q5 _ _ t5, (q6 _).trans yputR_at⟩))) ?_ (fun _ q => q)
    · have q : sRead t 1 j' = .inl (e, p) := q
      rw [q] at he
      exact her e p H' (Option.some.inj he).symm T
    rintro v H6 ⟨k', j'', η6, tk', KW6, rfl, q2, J6, l6, t6, t6', r6⟩
    rw [q2] at he
    have he : gInput t (sP t n) (k, k', 1 + (if k'.1 = 6 then 0 else 1), j'', 0, F, 0) = some r := he
    have hin2 := sRead_in hT.2.2.1 hin.2.1 q2
    have hsh2 := sRead_short hT.2.2.1 q2
    have hvr2 := sRead_var hT.2.2.1 hin.2.1 q2
    have tl6 : k'.2.1 + tlen k' ≤ j'' := by
      unfold tlen
      split
      · next w => exact hvr2 w
      · split
        · omega
        · next w => have := hin2.2.2.2.2 w; omega
    rw [show 0 + 1 + (if k'.1 = 6 then 0 else 1) = 1 + (if k'.1 = 6 then 0 else 1) by omega] at J6
    obtain ⟨η7, J7, tt7⟩ := PJ_w (f := 1805) (w := some tk') (Or.inr rfl) J6
    refine yl_Parser_input_p63 ?_
    unfold yb_Parser_input_p63
    refine zW_pR (by exact J6.1.2.2.1.2.1) (by decide) ?_
    have S := SS_PJ J7 (k := k) (k' := k') (by split <;> omega) (by split <;> omega) ⟨tk, (yputR_f (by decide)).trans r6, tt7 _ _ t6'⟩ ⟨tk', yputR_at, tt7 _ _ t6⟩ ⟨hsh.1, hsh2.1, hsh.2, hsh2.2⟩ ⟨by omega, by omega⟩ hFl
    exact y_inBody h0 h41 hlen S rfl J7.2.1.2.1 (by omega) (by omega) (by have := pmu_le (t := t) (σ := (k, k', 1 + (if k'.1 = 6 then 0 else 1), j'', 0, F, 0)); unfold dep; show 40 * (41 - 0) + 2 * pmu t _ + 40 ≤ _; omega) he her hk
end YInp2
