set_option maxRecDepth 100000
/-! THE OWNER'S LISTS: lengthened, shortened -/
section YOwn
variable {C : YC} {B P O : Nat → Prop} {X : Nat → Nat} {t : List Int} {Γ : Gm} {H H' : YS} {σ σ1 : Ps} {η η' η1 : Et} {M : List (Gt × Option Nat)} {g h g' h' : Int} {a e c s d dp n cap N : Nat} {F F' : List (List Int × Int × Int)} {Q : Option (Option ZV) → YS → Prop} {r : (Int × Nat) ⊕ (Gt × Ps)} {l : List Gt} {θ : Gt} {w : Option Nat} {L : List (SF × Option Nat)} {G : Nat → Prop}
theorem sep_dn : ∀ (i : Nat) {F : Nat → Prop} {L : List (SF × Option Nat)} {q : SF × Option Nat}, i < L.length → sep F (q :: L.eraseIdx i) → sep F (L.set i q) := by
  intro i
  induction i with
  | zero =>
    intro F L q hi h
    cases L with
    | nil => exact absurd hi (Nat.not_lt_zero _)
    | cons x L => exact h
  | succ i ih =>
    intro F L q hi h
    cases L with
    | nil => exact absurd hi (Nat.not_lt_zero _)
    | cons x L =>
      obtain ⟨G, F1, h1, h2, h3, h4, h5⟩ := sep_swap h
      exact ⟨G, F1, h1, h2, h3, h4, ih (Nat.lt_of_succ_lt_succ hi) h5⟩
theorem YO_oW {F : Nat → Prop} : YO C B H (oW n θ) F w ↔ ∃ G : Nat → Prop, (∀ x, G x → F x) ∧ (∀ x, G x → n ≤ x) ∧ YO C B H θ G w := by
  unfold oW
  rw [YO_gn]
  unfold hoA
  rw [if_neg (by decide), if_neg (by decide), if_neg (by decide), if_neg (by decide), if_pos rfl]
  exact Iff.rfl
theorem YO_lst' (hy : YO C B H (oC cap l) G w) : ∃ (a e : Nat) (xs : List (Option Nat)), w = some a ∧ G a ∧ AlY H a e cap xs ∧ (yK H e = 1005 → G e) ∧ xs.length = l.length ∧ sep (fun x => G x ∧ x ≠ a ∧ x ≠ e) (List.zip (l.map (YO C B H)) xs) := by
  unfold oC at hy
  rw [YO_gn] at hy
  unfold hoA at hy
  rw [if_neg (by decide), if_neg (by decide), if_pos rfl] at hy
  obtain ⟨a, e, cap', xs, ha, q1, q2, q3, q4, q5, q6⟩ := hy
  have hc : cap' = cap := by
    rcases q4 with q | q
    · cases q
    · have := (List.cons.inj (List.cons.inj q).1).1
      omega
  subst hc
  rw [List.length_map] at q5
  rw [List.map_map] at q6
  exact ⟨a, e, xs, ha, q1, q2, q3, q5, q6⟩
theorem add_core (hE : CE C H) (hc : cap ≤ 10000000) (hG : ∀ x, G x → x < ynx H) (hw : ∀ x, w = some x → x < ynx H ∧ yokE 1005 (yK H x) = true) (hθ : ∀ H1 c s, yEx (fun x => G x ∧ (yK H x = 5 ∨ yK H x = 1005)) c s H H1 → YO C B H1 θ (fun _ => False) w) (hl : YO C B H (oC cap l) G (some a)) :
    zW (YL C (d + 6) 505 [zr a, .inr (.inr w)] H) (fun o H1 => o = some (some (.inl 1)) ∧ ∃ (cap1 : Nat) (G1 : Nat → Prop), YO C B H1 (oC cap1 (l ++ [θ])) G1 (some a) ∧ (∀ x, G1 x → G x ∨ (ynx H ≤ x ∧ x < ynx H1)) ∧ cap ≤ cap1 ∧ cap1 ≤ max cap (2 * l.length + 10) ∧ yEx (fun x => G x ∧ (yK H x = 5 ∨ yK H x = 1005)) 1 (4 * (cap1 - cap)) H H1) := by
  obtain ⟨a', e, xs, ha, ga, A, ge, hl, q6⟩ := YO_lst' hl
  cases ha
  refine zW_mono (y_alAdd (d := d) hE A hc hw) ?_
  rintro o H1 ⟨rfl, e1, cap1, A1, k1, c1, c2, he, ex⟩
  have hn1 := ex.2.2.1
  have pG : ∀ x, PA H a e x → G x ∧ (yK H x = 5 ∨ yK H x = 1005) := by
    rintro x (rfl | ⟨rfl, q⟩)
    · exact ⟨ga, Or.inl A.2.1⟩
    · exact ⟨ge q, Or.inr q⟩
  have im : Im B (PA H a e) H := by
    have ka := A.2.1
    refine ⟨fun x q _ => ?_, fun x q _ => ?_⟩ <;> rcases q with rfl | ⟨rfl, q⟩ <;> omega
  have he1 := A1.2.2.2.2.2.1
  have ex' := yEx_mono ex (P' := fun x => G x ∧ (yK H x = 5 ∨ yK H x = 1005)) (fun x _ q => pG x q) (Nat.le_refl _) (Nat.le_refl _)
  refine ⟨rfl, cap1, fun x => G x ∨ (x = e1 ∧ ynx H ≤ e1), YO_lst (Or.inl ga) A1 (fun _ => ?_) (by rw [List.length_append, List.length_append, hl]; rfl) ?_, fun x q => q.imp id (fun q => ⟨by omega, by omega⟩), c1, by rw [← hl]; exact c2, ex'⟩
  · rcases he with ⟨rfl, q⟩ | q
    · exact Or.inl (ge q)
    · exact Or.inr ⟨rfl, q⟩
  · rw [zip_snoc hl]
    have ne1 : ∀ x, G x → x ≠ e → x ≠ e1 := by
      intro x q1 q2 q3
      rcases he with ⟨rfl, _⟩ | q
      · exact q2 q3
      · have := hG x q1; omega
    refine sep_app.mpr ⟨fun x => G x ∧ x ≠ a ∧ x ≠ e, fun _ => False, fun x q => ⟨Or.inl q.1, q.2.1, ne1 x q.1 q.2.2⟩, fun _ q => q.elim, fun _ _ q => q, zip_ex ex im l xs _ (fun x q z => ?_) q6, fun _ => False, fun _ => False, fun _ q => q, fun _ q => q, fun _ q => q.elim, hθ _ _ _ ex', trivial⟩
    rcases z with z | ⟨z, _⟩
    · exact q.2.1 z
    · exact q.2.2 z
/-- the owner has worked at its lists -/
theorem PB0_o {O2 : Nat → Prop} (h : PB0 C B X H dp F η) (hx : yEx P c s H H') (hP : ∀ x, P x → x < ynx H → ¬ PL X H x ∧ (yK H x = 5 ∨ yK H x = 1005 ∨ yK H x = 24 ∨ yK H x = 58)) (hO1 : ∀ x, eO η x → (PL X H x ∨ x = X 8 ∨ x = X 11 ∨ x = X 1 ∨ x = X 2) → eO η' x) (hO2 : ∀ x, eO η' x → x < ynx H') (ht : et η' = et η) (hg : (es η' ≤ 1000000 ∧ ∀ f ∈ F', f.1.length ≤ 200) ∧ ev η' ≤ 1000000 ∧ ∀ v ∈ eV η', (v.2.1.1 = 24 ∨ v.2.1.1 = 58) ∧ v.2.2.2.1.1 ≤ 10 + 2 * v.2.2.1.1.length ∧ v.2.2.2.1.2 ≤ 10 + 2 * v.2.2.1.2.length) (hvl : (eV η').length ≤ dp + 1)
    (o1 : ∀ x, O2 x → eO η' x ∧ ¬ PL X H x ∧ x ≠ X 8 ∧ x ≠ X 11 ∧ x ≠ X 1 ∧ x ≠ X 2) (o2 : sep O2 ((ovM X F' η').map fun q => (YO C B H' q.1, q.2))) : PB0 C B X H' dp F' η' := by
  obtain ⟨⟨a1, a2, a3, a4, a5, a6⟩, ⟨b1, b2, b3, b4, b5, ea, b6, b7⟩, ⟨c1, c2, c3, c4, c5, c6, c7, c8⟩, ⟨d1, d2, d3⟩, e1, ⟨f1, f2, f3, f4, f5⟩, -, -⟩ := h
  have hn := hx.2.2.1
  have lt := a6.1.1
  obtain ⟨k0, k1, k2, k3, k4, k5, k6, k7⟩ := a6.1.2.1
  have im : Im B P H := by
    refine ⟨fun x q w => ?_, fun x q w => ?_⟩ <;> have := (hP x q w).2 <;> omega
  have nk : ∀ x, x < ynx H → yK H x ≠ 5 → yK H x ≠ 1005 → yK H x ≠ 24 → yK H x ≠ 58 → ¬ P x := fun x w w1 w2 w3 w4 q => by have := (hP x q w).2; omega
  have s5 := hx.1 (X 5) (lt 5 (by decide)) (fun q => (hP _ q (lt 5 (by decide))).1 (Or.inr (Or.inr (Or.inl rfl))))
  have s8 := hx.1 (X 8) c1 (nk _ c1 (by omega) (by omega) (by omega) (by omega))
  have s11 := hx.1 (X 11) f1 (nk _ f1 (by omega) (by omega) (by omega) (by omega))
  have pl : ∀ x, PL X H' x → PL X H x := by
    rintro x (q | q | q | q | q | ⟨q1, q2⟩)
    · exact Or.inl q
    · exact Or.inr (Or.inl q)
    · exact Or.inr (Or.inr (Or.inl q))
    · exact Or.inr (Or.inr (Or.inr (Or.inl q)))
    · exact Or.inr (Or.inr (Or.inr (Or.inr (Or.inl q))))
    · rw [s5.2.1, b6] at q1
      have := Option.some.inj q1
      subst this
      exact Or.inr (Or.inr (Or.inr (Or.inr (Or.inr ⟨b6, by rw [← (hx.2.1 ea b7).1]; exact q2⟩))))
  refine ⟨⟨hO2, fun x q => by have := a2 x q; omega, a3, a4, ⟨CE_ex a5.1 hx, KI_ex a5.2 hx im⟩, Lf_ex a6 hx im.1 (nk _ (lt 0 (by decide)) (by omega) (by omega) (by omega) (by omega)) (nk _ (lt 1 (by decide)) (by omega) (by omega) (by omega) (by omega)) (nk _ (lt 3 (by decide)) (by omega) (by omega) (by omega) (by omega))⟩, ⟨fun x q => hO1 x (b1 x (pl x q)) (Or.inl (pl x q)), hO1 _ b2 (Or.inr (Or.inl rfl)), hO1 _ b3 (Or.inr (Or.inr (Or.inl rfl))), hO1 _ b4 (Or.inr (Or.inr (Or.inr (Or.inl rfl)))), hO1 _ b5 (Or.inr (Or.inr (Or.inr (Or.inr rfl)))), ea, (s5.2.1 _).trans b6, by omega⟩, ⟨by omega, (hx.2.1 _ c1).1.trans c2, (s8.2.1 _).trans c3, (s8.2.1 _).trans c4, (s8.2.1 _).trans c5, (s8.2.1 _).trans c6, (s8.2.1 _).trans c7, (s8.2.1 _).trans c8⟩, ⟨(s8.1 _).trans d1, ⟨d2.1, hvl⟩, by rw [ht]; exact (s8.1 _).trans d3⟩, ImY_ex e1 hx im, ⟨by omega, (hx.2.1 _ f1).1.trans f2, (hx.2.1 _ f1).2.trans f3, f4, fun j hj => ?_⟩, hg, O2, fun x q => ⟨(o1 x q).1, fun w => (o1 x q).2.1 (pl x w), (o1 x q).2.2⟩, o2⟩
  rw [s11.2.2.2]
  exact (f5 j hj).imp id (fun ⟨s, q1, q2⟩ => ⟨s, q1, StrY_ex q2 hx im.1⟩)
theorem SS_o {O2 : Nat → Prop} {M' : List (Gt × Option Nat)} (S : SS C B X t Γ H σ η M g h) (hx : yEx P c s H H') (hP : ∀ x, P x → x < ynx H → ¬ PL X H x ∧ (yK H x = 5 ∨ yK H x = 1005 ∨ yK H x = 24 ∨ yK H x = 58)) (hPΓ : ∀ x, x < ynx Γ.1 → P x → Γ.2.1 x) (hO1 : ∀ x, eO η x → (PL X H x ∨ x = X 8 ∨ x = X 11 ∨ x = X 1 ∨ x = X 2) → eO η' x) (hO2 : ∀ x, eO η' x → x < ynx H') (hO3 : ∀ x, x < ynx Γ.1 → eO η' x → Γ.2.1 x) (hL : Lv C B (ynx Γ.1) (eO η') H' M') (ht : et η' = et η) (hc : ec η' = ec η) (hg : (es η' ≤ 1000000 ∧ ∀ f ∈ F', f.1.length ≤ 200) ∧ ev η' ≤ 1000000 ∧ ∀ v ∈ eV η', (v.2.1.1 = 24 ∨ v.2.1.1 = 58) ∧ v.2.2.2.1.1 ≤ 10 + 2 * v.2.2.1.1.length ∧ v.2.2.2.1.2 ≤ 10 + 2 * v.2.2.1.2.length) (hv : veN (eV η') ≤ pq σ + Γ.2.2.2.2) (hvl : (eV η').length ≤ pd σ + 1) (hFl : F'.length ≤ 100000 + pq σ)
    (o1 : ∀ x, O2 x → eO η' x ∧ ¬ PL X H x ∧ x ≠ X 8 ∧ x ≠ X 11 ∧ x ≠ X 1 ∧ x ≠ X 2) (o2 : sep O2 ((ovM X F' η').map fun q => (YO C B H' q.1, q.2)))
    (hcg : (c : Int) + ccV (eV η') + g ≤ ccV (eV η) + g') (hch : (s : Int) + crV (eV η') + 4 * (es η + ev η) + h ≤ crV (eV η) + 4 * (es η' + ev η') + h') : SS C B X t Γ H' (psF σ F') η' M' g' h' := by
  obtain ⟨⟨h0, h1, h2, ⟨KW, h3, h4⟩, h5, h6, h7⟩, L, E, hO, hg1, hh1, h8⟩ := S
  have hn := hx.2.2
  have hn0 := E.2.2.1
  have a6 := h0.1.2.2.2.2.2
  have lt := a6.1.1
  have c1 := h0.2.2.1.1
  have c2 := h0.2.2.1.2.1
  obtain ⟨k0, k1, k2, k3, k4, k5, k6, k7⟩ := a6.1.2.1
  have im : Im B P H := by
    refine ⟨fun x q w => ?_, fun x q w => ?_⟩ <;> have := (hP x q w).2 <;> omega
  have nk : ∀ x, x < ynx H → yK H x ≠ 5 → yK H x ≠ 1005 → yK H x ≠ 24 → yK H x ≠ 58 → ¬ P x := fun x w w1 w2 w3 w4 q => by have := (hP x q w).2; omega
  have nL : ∀ x, x < ynx H → PL X H x → ¬ P x := fun x w w1 q => (hP x q w).1 w1
  have n0 := nL _ (lt 0 (by decide)) (Or.inl rfl)
  refine ⟨⟨PB0_o h0 hx hP hO1 hO2 ht hg hvl o1 o2, tkO_ex (σ := σ) h0 h1 hx im (nk _ c1 (by omega) (by omega) (by omega) (by omega)), Lt_ex a6 h2 hx n0 (nk _ (lt 2 (by decide)) (by omega) (by omega) (by omega) (by omega)), ⟨KW, ?_, h4⟩, ?_, h6, h7.1, hFl⟩, hL, Gm_ex E hx hPΓ, hO3, ?_, ?_, hv, h8.2.1, by rw [ht]; exact h8.2.2⟩
  · rw [hc]
    refine LnY_ex a6 h3 hx im.1 (nL _ (lt 5 (by decide)) (Or.inr (Or.inr (Or.inl rfl)))) (nL _ (lt 6 (by decide)) (Or.inr (Or.inr (Or.inr (Or.inl rfl))))) (nL _ (lt 7 (by decide)) (Or.inr (Or.inr (Or.inr (Or.inr (Or.inl rfl)))))) (fun e q1 q2 => ?_)
    obtain ⟨ea, q3, q4⟩ := h0.2.1.2.2.2.2.2
    rw [q3] at q1
    have := Option.some.inj q1
    subst this
    exact nL _ q4 (Or.inr (Or.inr (Or.inr (Or.inr (Or.inr ⟨q3, q2⟩)))))
  · exact ((hx.1 (X 0) (lt 0 (by decide)) n0).1 2405).trans h5
  · show (ynx H' : Int) + Γ.2.2.1 + ccV (eV η') ≤ 80 * (pq σ : Int) + (pi' σ : Int) + g'
    omega
  · show (ysl H' : Int) + Γ.2.2.2.1 + crV (eV η') ≤ 500 * (pq σ : Int) + 8 * (pi' σ : Int) + 4 * ((ec η' : Int) + es η' + ev η') + h'
    rw [hc]
    omega
/-- one more in one of the owner's lists -/
theorem zW_oadd {k : Int → YS → ZR YS} (i nv : Nat) (b : Bool) (hd : 8 ≤ d) (hFl : F'.length ≤ 100000 + pq σ) (S : SS C B X t Γ H σ η M g h) (hc : cap ≤ 10000000) (hi : (ovM X (pF σ) η)[i]? = some (if b then oW nv (oC cap l) else oC cap l, some a)) (hnv : nv ≤ ynx H) (hw : ∀ x, w = some x → x < ynx H ∧ yokE 1005 (yK H x) = true) (hθ : ∀ H1 c s (P : Nat → Prop), (∀ x, P x → x < ynx H → yK H x = 5 ∨ yK H x = 1005) → yEx P c s H H1 → YO C B H1 θ (fun _ => False) w)
    (ηf : Nat → (Nat → Prop) → Et) (hk : ∀ (cap1 : Nat) (H1 : YS), cap ≤ cap1 → cap1 ≤ max cap (2 * l.length + 10) → eO (ηf cap1 (fun x => eO η x ∨ (ynx H ≤ x ∧ x < ynx H1))) = (fun x => eO η x ∨ (ynx H ≤ x ∧ x < ynx H1)) ∧ et (ηf cap1 (fun x => eO η x ∨ (ynx H ≤ x ∧ x < ynx H1))) = et η ∧ ec (ηf cap1 (fun x => eO η x ∨ (ynx H ≤ x ∧ x < ynx H1))) = ec η ∧ ovM X F' (ηf cap1 (fun x => eO η x ∨ (ynx H ≤ x ∧ x < ynx H1))) = (ovM X (pF σ) η).set i (if b then oW nv (oC cap1 (l ++ [θ])) else oC cap1 (l ++ [θ]), some a))
    (hg : ∀ cap1 O', cap ≤ cap1 → cap1 ≤ max cap (2 * l.length + 10) → ((es (ηf cap1 O') ≤ 1000000 ∧ ∀ f ∈ F', f.1.length ≤ 200) ∧ ev (ηf cap1 O') ≤ 1000000 ∧ ∀ v ∈ eV (ηf cap1 O'), (v.2.1.1 = 24 ∨ v.2.1.1 = 58) ∧ v.2.2.2.1.1 ≤ 10 + 2 * v.2.2.1.1.length ∧ v.2.2.2.1.2 ≤ 10 + 2 * v.2.2.1.2.length) ∧ (veN (eV (ηf cap1 O')) ≤ pq σ + Γ.2.2.2.2 ∧ (eV (ηf cap1 O')).length ≤ pd σ + 1) ∧ ((1 : Int) + ccV (eV (ηf cap1 O')) + g ≤ ccV (eV η) + g') ∧ ((4 * (cap1 - cap) : Nat) : Int) + crV (eV (ηf cap1 O')) + 4 * (es η + ev η) + h ≤ crV (eV η) + 4 * (es (ηf cap1 O') + ev (ηf cap1 O')) + h')
    (hq : ∀ cap1 O' H1, cap ≤ cap1 → SS C B X t Γ H1 (psF σ F') (ηf cap1 O') M g' h' → zW (k 1 H1) Q) : zW (zI (ycv (YL C) d [(5, 505)] (some a) [.inr (.inr w)] H) k) Q := by
  obtain ⟨d, rfl⟩ : ∃ e, d = e + 7 := ⟨d - 7, by omega⟩
  have h0 := S.1.1
  obtain ⟨O2, o1, o2⟩ := h0.2.2.2.2.2.2.2
  have hO := h0.1.1
  have hil : i < (ovM X (pF σ) η).length := (List.getElem?_eq_some_iff.mp hi).1
  have up := sep_up i (L := (ovM X (pF σ) η).map fun q => (YO C B H q.1, q.2)) _ (by rw [List.getElem?_map, hi]; rfl) o2
  obtain ⟨G, F1, p1, p2, p3, p4, p5⟩ := up
  have core : ∃ G0 : Nat → Prop, (∀ x, G0 x → G x) ∧ (b = true → ∀ x, G0 x → nv ≤ x) ∧ YO C B H (oC cap l) G0 (some a) := by
    cases b with
    | false => exact ⟨G, fun _ q => q, (fun q => nomatch q), p4⟩
    | true =>
      obtain ⟨G0, w1, w2, w3⟩ := YO_oW.mp p4
      exact ⟨G0, w1, fun _ => w2, w3⟩
  obtain ⟨G0, u1, u2, u3⟩ := core
  obtain ⟨a', e, xs, ha, ga, A, -⟩ := YO_lst' u3
  cases ha
  have hGx : ∀ x, G0 x → x < ynx H := fun x q => hO x (o1 x (p1 x (u1 x q))).1
  rw [ycv_s A.2.1 ⟨by decide, rfl⟩]
  refine zW_I (P := fun v H1 => v = 1 ∧ ∃ (cap1 : Nat) (G1 : Nat → Prop), YO C B H1 (oC cap1 (l ++ [θ])) G1 (some a) ∧ (∀ x, G1 x → G0 x ∨ (ynx H ≤ x ∧ x < ynx H1)) ∧ cap ≤ cap1 ∧ cap1 ≤ max cap (2 * l.length + 10) ∧ yEx (fun x => G0 x ∧ (yK H x = 5 ∨ yK H x = 1005)) 1 (4 * (cap1 - cap)) H H1) (T := fun _ => False) (zW_c (zW_mono (add_core (d := d) (SS_E S) hc hGx hw (fun H1 c s ex => hθ H1 c s _ (fun x q _ => q.2) ex) u3) (fun o H1 q => by rw [q.1]; exact ⟨rfl, q.2⟩))) ?_ (fun _ q => q.elim)
  rintro v H1 ⟨rfl, cap1, G1, y1, y2, y3, y4, y5⟩
  have hn := y5.2.2.1
  have hn0 := S.2.2.1.2.2.1
  obtain ⟨hk1, hk2, hk3, hk4⟩ := hk cap1 H1 y3 y4
  obtain ⟨g1, g2, g3, g4⟩ := hg cap1 (fun x => eO η x ∨ (ynx H ≤ x ∧ x < ynx H1)) y3 y4
  have im : Im B (fun x => G0 x ∧ (yK H x = 5 ∨ yK H x = 1005)) H := by
    refine ⟨fun x q _ => ?_, fun x q _ => ?_⟩ <;> have := q.2 <;> omega
  refine hq cap1 _ H1 y3 (SS_o (O2 := fun x => O2 x ∨ (ynx H ≤ x ∧ x < ynx H1)) S y5 (fun x q w => ⟨(o1 x (p1 x (u1 x q.1))).2.1, by have := q.2; omega⟩) (fun x q w => S.2.2.2.1 x q (o1 x (p1 x (u1 x w.1))).1) (fun x q _ => ?_) (fun x q => ?_) (fun x q w => ?_) ?_ hk2 hk3 g1 g2.1 g2.2 hFl (fun x q => ?_) ?_ g3 g4)
  · rw [hk1]; exact Or.inl q
  · rw [hk1] at q
    rcases q with q | q
    · have := hO x q; omega
    · exact q.2
  · rw [hk1] at w
    rcases w with w | w
    · exact S.2.2.2.1 x q w
    · omega
  · rw [hk1]
    exact Lv_ex S.2.1 y5 im (fun x _ q => (o1 x (p1 x (u1 x q.1))).1) (fun x q w => w.elim id (fun w => by omega))
  · rw [hk1]
    rcases q with q | q
    · exact ⟨Or.inl (o1 x q).1, (o1 x q).2⟩
    · refine ⟨Or.inr q, fun z => ?_, fun z => ?_, fun z => ?_, fun z => ?_, fun z => ?_⟩
      · have := hO x (h0.2.1.1 x z); omega
      · have := h0.2.2.1.1; omega
      · have := h0.2.2.2.2.2.1.1; omega
      · have := h0.1.2.2.2.2.2.1.1 1 (by decide); omega
      · have := h0.1.2.2.2.2.2.1.1 2 (by decide); omega
  · rw [hk4]
    have hset : ((ovM X (pF σ) η).set i (if b then oW nv (oC cap1 (l ++ [θ])) else oC cap1 (l ++ [θ]), some a)).map (fun q => (YO C B H1 q.1, q.2)) = ((ovM X (pF σ) η).map (fun q => (YO C B H1 q.1, q.2))).set i (YO C B H1 (if b then oW nv (oC cap1 (l ++ [θ])) else oC cap1 (l ++ [θ])), some a) := by
      rw [List.map_set]
    rw [hset]
    refine sep_dn i (by rw [List.length_map]; exact hil) ?_
    rw [eraseIdx_map'] at p5 ⊢
    refine ⟨fun x => G x ∨ (ynx H ≤ x ∧ x < ynx H1), F1, fun x q => q.imp (p1 x) id, fun x q => Or.inl (p2 x q), fun x q w => ?_, ?_, sep_ex y5 im _ F1 (fun x q w => p3 x (u1 x w.1) q) p5⟩
    · rcases q with q | q
      · exact p3 x q w
      · have := hO x (o1 x (p2 x w)).1; omega
    · cases b with
      | false => exact YO_mono _ _ _ _ (fun x q => (y2 x q).imp (u1 x) id) y1
      | true =>
        refine YO_oW.mpr ⟨G1, fun x q => (y2 x q).imp (u1 x) id, fun x q => ?_, y1⟩
        rcases y2 x q with q | q
        · exact u2 rfl x q
        · omega
end YOwn
