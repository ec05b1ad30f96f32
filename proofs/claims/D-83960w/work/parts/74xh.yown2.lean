set_option maxRecDepth 100000
/-! THE OWNER'S LISTS: things go in, things come out -/
section YOw2
variable {C : YC} {B P O : Nat → Prop} {X : Nat → Nat} {t : List Int} {Γ : Gm} {H H' : YS} {σ σ1 : Ps} {η η' η1 : Et} {M : List (Gt × Option Nat)} {g h g' h' : Int} {a e c s d dp n cap N : Nat} {F F' : List (List Int × Int × Int)} {Q : Option (Option ZV) → YS → Prop} {r : (Int × Nat) ⊕ (Gt × Ps)} {l : List Gt} {θ : Gt} {w : Option Nat} {f : Ps → PR}
/-- one more in one of the owner's lists; E goes over to the owner -/
theorem zW_oaddE {k : Int → YS → ZR YS} (E : List (Gt × Option Nat)) (i : Nat) (hd : 8 ≤ d) (hFl : F'.length ≤ 100000 + pq σ) (S : SS C B X t Γ H σ η (E ++ M) g h) (hc : cap ≤ 10000000) (hi : (ovM X (pF σ) η)[i]? = some (oC cap l, some a)) (hw : ∀ x, w = some x → x < ynx H ∧ yokE 1005 (yK H x) = true) (hθ : ∀ H1 c s (P : Nat → Prop), (∀ x, P x → x < ynx H → yK H x = 5 ∨ yK H x = 1005) → yEx P c s H H1 → YO C B H1 θ (fun _ => False) w)
    (ηf : Nat → (Nat → Prop) → Et) (hk : ∀ (cap1 : Nat) (O' : Nat → Prop), cap ≤ cap1 → cap1 ≤ max cap (2 * l.length + 10) → eO (ηf cap1 O') = O' ∧ et (ηf cap1 O') = et η ∧ ec (ηf cap1 O') = ec η ∧ ((ovM X (pF σ) η).set i (oC cap1 (l ++ [θ]), some a) ++ E).Perm (ovM X F' (ηf cap1 O')))
    (hg : ∀ cap1 O', cap ≤ cap1 → cap1 ≤ max cap (2 * l.length + 10) → ((es (ηf cap1 O') ≤ 1000000 ∧ ∀ f ∈ F', f.1.length ≤ 200) ∧ ev (ηf cap1 O') ≤ 1000000 ∧ ∀ v ∈ eV (ηf cap1 O'), (v.2.1.1 = 24 ∨ v.2.1.1 = 58) ∧ v.2.2.2.1.1 ≤ 10 + 2 * v.2.2.1.1.length ∧ v.2.2.2.1.2 ≤ 10 + 2 * v.2.2.1.2.length) ∧ (veN (eV (ηf cap1 O')) ≤ pq σ + Γ.2.2.2.2 ∧ (eV (ηf cap1 O')).length ≤ pd σ + 1) ∧ ((1 : Int) + ccV (eV (ηf cap1 O')) + g ≤ ccV (eV η) + g') ∧ ((4 * (cap1 - cap) : Nat) : Int) + crV (eV (ηf cap1 O')) + 4 * (es η + ev η) + h ≤ crV (eV η) + 4 * (es (ηf cap1 O') + ev (ηf cap1 O')) + h')
    (hq : ∀ cap1 O' H1, cap ≤ cap1 → SS C B X t Γ H1 (psF σ F') (ηf cap1 O') M g' h' → zW (k 1 H1) Q) : zW (zI (ycv (YL C) d [(5, 505)] (some a) [.inr (.inr w)] H) k) Q := by
  obtain ⟨d, rfl⟩ : ∃ e, d = e + 7 := ⟨d - 7, by omega⟩
  have h0 := S.1.1
  obtain ⟨O2, o1, o2⟩ := h0.2.2.2.2.2.2.2
  have hO := h0.1.1
  have hil : i < (ovM X (pF σ) η).length := (List.getElem?_eq_some_iff.mp hi).1
  have up := sep_up i (L := (ovM X (pF σ) η).map fun q => (YO C B H q.1, q.2)) _ (by rw [List.getElem?_map, hi]; rfl) o2
  obtain ⟨G, F1, p1, p2, p3, p4, p5⟩ := up
  have p4 : YO C B H (oC cap l) G (some a) := p4
  obtain ⟨FL, l1, l2⟩ := S.2.1
  rw [List.map_append] at l2
  obtain ⟨GE, GM, e1, e2, e3, e4, e5⟩ := sep_app.mp l2
  obtain ⟨a', e, xs, ha, ga, A, -⟩ := YO_lst' p4
  cases ha
  have hGx : ∀ x, G x → x < ynx H := fun x q => hO x (o1 x (p1 x q)).1
  rw [ycv_s A.2.1 ⟨by decide, rfl⟩]
  refine zW_I (P := fun v H1 => v = 1 ∧ ∃ (cap1 : Nat) (G1 : Nat → Prop), YO C B H1 (oC cap1 (l ++ [θ])) G1 (some a) ∧ (∀ x, G1 x → G x ∨ (ynx H ≤ x ∧ x < ynx H1)) ∧ cap ≤ cap1 ∧ cap1 ≤ max cap (2 * l.length + 10) ∧ yEx (fun x => G x ∧ (yK H x = 5 ∨ yK H x = 1005)) 1 (4 * (cap1 - cap)) H H1) (T := fun _ => False) (zW_c (zW_mono (add_core (d := d) (SS_E S) hc hGx hw (fun H1 c s ex => hθ H1 c s _ (fun x q _ => q.2) ex) p4) (fun o H1 q => by rw [q.1]; exact ⟨rfl, q.2⟩))) ?_ (fun _ q => q.elim)
  rintro v H1 ⟨rfl, cap1, G1, y1, y2, y3, y4, y5⟩
  have hn := y5.2.2.1
  have hn0 := S.2.2.1.2.2.1
  obtain ⟨hk1, hk2, hk3, hk4⟩ := hk cap1 (fun x => eO η x ∨ GE x ∨ (ynx H ≤ x ∧ x < ynx H1)) y3 y4
  obtain ⟨g1, g2, g3, g4⟩ := hg cap1 (fun x => eO η x ∨ GE x ∨ (ynx H ≤ x ∧ x < ynx H1)) y3 y4
  have im : Im B (fun x => G x ∧ (yK H x = 5 ∨ yK H x = 1005)) H := by
    refine ⟨fun x q _ => ?_, fun x q _ => ?_⟩ <;> have := q.2 <;> omega
  have nP : ∀ x, FL x → ¬ (G x ∧ (yK H x = 5 ∨ yK H x = 1005)) := fun x q w => (l1 x q).2.2 (o1 x (p1 x w.1)).1
  refine hq cap1 _ H1 y3 (SS_o (O2 := fun x => (O2 x ∨ (ynx H ≤ x ∧ x < ynx H1)) ∨ GE x) S y5 (fun x q w => ⟨(o1 x (p1 x q.1)).2.1, by have := q.2; omega⟩) (fun x q w => S.2.2.2.1 x q (o1 x (p1 x w.1)).1) (fun x q _ => ?_) (fun x q => ?_) (fun x q w => ?_) ?_ hk2 hk3 g1 g2.1 g2.2 hFl (fun x q => ?_) ?_ g3 g4)
  · rw [hk1]; exact Or.inl q
  · rw [hk1] at q
    rcases q with q | q | q
    · have := hO x q; omega
    · have := (l1 x (e1 x q)).2.1; omega
    · exact q.2
  · rw [hk1] at w
    rcases w with w | w | w
    · exact S.2.2.2.1 x q w
    · have := (l1 x (e1 x w)).1; omega
    · omega
  · rw [hk1]
    refine ⟨GM, fun x q => ⟨(l1 x (e2 x q)).1, Nat.lt_of_lt_of_le (l1 x (e2 x q)).2.1 hn, fun w => ?_⟩, sep_ex y5 im M GM (fun x q => nP x (e2 x q)) e5⟩
    rcases w with w | w | w
    · exact (l1 x (e2 x q)).2.2 w
    · exact e3 x w q
    · have := (l1 x (e2 x q)).2.1; omega
  · rw [hk1]
    rcases q with (q | q) | q
    · exact ⟨Or.inl (o1 x q).1, (o1 x q).2⟩
    · refine ⟨Or.inr (Or.inr q), fun z => ?_, fun z => ?_, fun z => ?_, fun z => ?_, fun z => ?_⟩
      · have := hO x (h0.2.1.1 x z); omega
      · have := h0.2.2.1.1; omega
      · have := h0.2.2.2.2.2.1.1; omega
      · have := h0.1.2.2.2.2.2.1.1 1 (by decide); omega
      · have := h0.1.2.2.2.2.2.1.1 2 (by decide); omega
    · have nO := (l1 x (e1 x q)).2.2
      exact ⟨Or.inr (Or.inl q), fun z => nO (h0.2.1.1 x z), fun z => nO (z ▸ h0.2.1.2.1), fun z => nO (z ▸ h0.2.1.2.2.1), fun z => nO (z ▸ h0.2.1.2.2.2.1), fun z => nO (z ▸ h0.2.1.2.2.2.2.1)⟩
  · refine sep_perm (hk4.map _) ?_
    rw [List.map_append]
    refine sep_app.mpr ⟨fun x => O2 x ∨ (ynx H ≤ x ∧ x < ynx H1), GE, fun x q => Or.inl q, fun x q => Or.inr q, fun x q w => ?_, ?_, sep_ex y5 im E GE (fun x q => nP x (e1 x q)) e4⟩
    · rcases q with q | q
      · exact (l1 x (e1 x w)).2.2 (o1 x q).1
      · have := (l1 x (e1 x w)).2.1; omega
    · rw [List.map_set]
      refine sep_dn i (by rw [List.length_map]; exact hil) ?_
      rw [eraseIdx_map'] at p5 ⊢
      refine ⟨fun x => G x ∨ (ynx H ≤ x ∧ x < ynx H1), F1, fun x q => q.imp (p1 x) id, fun x q => Or.inl (p2 x q), fun x q w => ?_, ?_, sep_ex y5 im _ F1 (fun x q w => p3 x w.1 q) p5⟩
      · rcases q with q | q
        · exact p3 x q w
        · have := hO x (o1 x (p2 x w)).1; omega
      · exact YO_mono _ _ _ _ (fun x q => y2 x q) y1
theorem pop_core (hc : cap ≤ 10000000) (hl : YO C B H (oC cap (l ++ [θ])) O (some a)) : zW (YL C (d + 2) 590 [zr a, .inl (l.length : Int)] H) (fun o H1 => ∃ w, o = some (some (.inr (.inr w))) ∧ YO C B H1 (oC cap l) O (some a) ∧ (∃ G2 : Nat → Prop, (∀ x, G2 x → O x) ∧ YO C B H θ G2 w) ∧ yEx (fun x => O x ∧ (yK H x = 5 ∨ yK H x = 1005)) 0 0 H H1) := by
  obtain ⟨a', e, xs, ha, ga, A, ge, hl, q6⟩ := YO_lst' hl
  cases ha
  rw [List.length_append] at hl
  have hl : xs.length = l.length + 1 := hl
  have hne : xs ≠ [] := fun q => by rw [q] at hl; cases hl
  have hcl := A.2.2.2.2.2.2.2.2.1
  have hxs : xs = xs.dropLast ++ [xs.getLast hne] := (List.dropLast_concat_getLast hne).symm
  have hdl : xs.dropLast.length = l.length := by rw [List.length_dropLast]; omega
  rw [hxs, zip_snoc hdl] at q6
  obtain ⟨A2, A3, r1, r2, r3, r4, A4, A5, r5, -, -, r6, -⟩ := sep_app.mp q6
  have pG : ∀ x, PA H a e x → O x ∧ (yK H x = 5 ∨ yK H x = 1005) := by
    rintro x (rfl | ⟨rfl, q⟩)
    · exact ⟨ga, Or.inl A.2.1⟩
    · exact ⟨ge q, Or.inr q⟩
  have im : Im B (PA H a e) H := by
    have ka := A.2.1
    refine ⟨fun x q _ => ?_, fun x q _ => ?_⟩ <;> rcases q with rfl | ⟨rfl, q⟩ <;> omega
  have hp := y_alPop (C := C) (d := d) A (by omega) hne
  rw [show ((xs.length : Int) - 1) = (l.length : Int) by omega] at hp
  refine zW_mono hp ?_
  rintro o H1 ⟨rfl, A1, ex, -⟩
  refine ⟨_, rfl, YO_lst ga A1 (fun q => ge (by rw [← (ex.2.1 e A.2.2.2.2.2.1).1]; exact q)) hdl (sep_mono (zip_ex ex im l xs.dropLast A2 (fun x q w => ?_) r4) (fun x q => r1 x q)), ⟨A4, fun x q => (r2 x (r5 x q)).1, r6⟩, yEx_mono ex (fun x _ q => pG x q) (Nat.le_refl _) (Nat.le_refl _)⟩
  have := (r1 x q).2
  rcases w with w | w
  · exact this.1 w
  · exact this.2 w.1
/-- the last one of an owner's list comes out; E comes back -/
theorem zW_opop {kk : Option Nat → YS → ZR YS} {R E : List (Gt × Option Nat)} (hd : 4 ≤ d) (hFl : F'.length ≤ 100000 + pq σ) (hc : cap ≤ 10000000) (S : SS C B X t Γ H σ η M g h) (hi : (ovM X (pF σ) η).Perm ((oC cap (l ++ [θ]), some a) :: R ++ E)) (ηf : (Nat → Prop) → Et) (hk : ∀ O', eO (ηf O') = O' ∧ et (ηf O') = et η ∧ ec (ηf O') = ec η ∧ ((oC cap l, some a) :: R).Perm (ovM X F' (ηf O')))
    (hN : ∀ (q : Gt × Option Nat), q ∈ E → ∃ θ', q.1 = oW (ynx Γ.1) θ')
    (hg : ∀ O', ((es (ηf O') ≤ 1000000 ∧ ∀ f ∈ F', f.1.length ≤ 200) ∧ ev (ηf O') ≤ 1000000 ∧ ∀ v ∈ eV (ηf O'), (v.2.1.1 = 24 ∨ v.2.1.1 = 58) ∧ v.2.2.2.1.1 ≤ 10 + 2 * v.2.2.1.1.length ∧ v.2.2.2.1.2 ≤ 10 + 2 * v.2.2.1.2.length) ∧ (veN (eV (ηf O')) ≤ pq σ + Γ.2.2.2.2 ∧ (eV (ηf O')).length ≤ pd σ + 1) ∧ ((ccV (eV (ηf O')) : Int) + g ≤ ccV (eV η) + g') ∧ crV (eV (ηf O')) + 4 * (es η + ev η) + h ≤ crV (eV η) + 4 * (es (ηf O') + ev (ηf O')) + h')
    (hq : ∀ O' H1 w, (∃ G2 : Nat → Prop, YO C B H θ G2 w) → SS C B X t Γ H1 (psF σ F') (ηf O') (E.map (fun q => ((gs q.1).getD 0 oN, q.2)) ++ M) g' h' → zW (kk w H1) Q) : zW (zQ (ycv (YL C) d [(5, 590)] (some a) [.inl (l.length : Int)] H) kk) Q := by
  obtain ⟨d, rfl⟩ : ∃ e, d = e + 3 := ⟨d - 3, by omega⟩
  have h0 := S.1.1
  obtain ⟨O2, o1, o2⟩ := h0.2.2.2.2.2.2.2
  have hO := h0.1.1
  have o2 := sep_perm (hi.map _) o2
  rw [List.map_append] at o2
  obtain ⟨GR, GE, e1, e2, e3, e4, e5⟩ := sep_app.mp o2
  obtain ⟨G, F1, p1, p2, p3, p4, p5⟩ := e4
  have p4 : YO C B H (oC cap (l ++ [θ])) G (some a) := p4
  obtain ⟨FL, l1, l2⟩ := S.2.1
  obtain ⟨a', e, xs, ha, ga, A, -⟩ := YO_lst' p4
  cases ha
  -- what comes back has its cells among those made since
  have back : ∀ (E : List (Gt × Option Nat)) (GE : Nat → Prop), (∀ q ∈ E, ∃ θ', q.1 = oW (ynx Γ.1) θ') → sep GE (E.map fun q => (YO C B H q.1, q.2)) → ∃ GB : Nat → Prop, (∀ x, GB x → GE x ∧ ynx Γ.1 ≤ x) ∧ sep GB ((E.map fun q => ((gs q.1).getD 0 oN, q.2)).map fun q => (YO C B H q.1, q.2)) := by
    intro E
    induction E with
    | nil => exact fun _ _ _ => ⟨fun _ => False, fun _ q => q.elim, trivial⟩
    | cons q E ih =>
      rintro GE hE ⟨G1, G2, z1, z2, z3, z4, z5⟩
      obtain ⟨θ', hθ'⟩ := hE q List.mem_cons_self
      have z4 : YO C B H q.1 G1 q.2 := z4
      rw [hθ'] at z4
      obtain ⟨G3, w1, w2, w3⟩ := YO_oW.mp z4
      obtain ⟨GB, b1, b2⟩ := ih G2 (fun q' hq' => hE q' (List.mem_cons_of_mem _ hq')) z5
      refine ⟨fun x => G3 x ∨ GB x, fun x y => y.elim (fun y => ⟨z1 x (w1 x y), w2 x y⟩) (fun y => ⟨z2 x (b1 x y).1, (b1 x y).2⟩), G3, GB, fun x y => Or.inl y, fun x y => Or.inr y, fun x y y' => z3 x (w1 x y) (b1 x y').1, ?_, b2⟩
      show YO C B H ((gs q.1).getD 0 oN) G3 q.2
      rw [hθ']
      unfold oW
      rw [gs_gn]
      exact w3
  obtain ⟨GB, b1, b2⟩ := back E GE hN e5
  have hGx : ∀ x, G x → x < ynx H := fun x q => hO x (o1 x (e1 x (p1 x q))).1
  have hn0 := S.2.2.1.2.2.1
  rw [ycv_s A.2.1 ⟨by decide, rfl⟩]
  refine zW_Q (P := fun w H1 => YO C B H1 (oC cap l) G (some a) ∧ (∃ G2 : Nat → Prop, YO C B H θ G2 w) ∧ yEx (fun x => G x ∧ (yK H x = 5 ∨ yK H x = 1005)) 0 0 H H1) (T := fun _ => False) (zW_c (zW_mono (pop_core (d := d) hc p4) (fun o H1 ⟨w, q1, q2, ⟨G2, q3, q4⟩, q5⟩ => by rw [q1]; exact ⟨q2, ⟨G2, q4⟩, q5⟩))) ?_ (fun _ q => q.elim)
  rintro w H1 ⟨y1, y2, y5⟩
  have hn := y5.2.2.1
  obtain ⟨hk1, hk2, hk3, hk4⟩ := hk (fun x => eO η x ∧ ¬ GB x)
  obtain ⟨g1, g2, g3, g4⟩ := hg (fun x => eO η x ∧ ¬ GB x)
  have im : Im B (fun x => G x ∧ (yK H x = 5 ∨ yK H x = 1005)) H := by
    refine ⟨fun x q _ => ?_, fun x q _ => ?_⟩ <;> have := q.2 <;> omega
  refine hq _ H1 w y2 (SS_o (O2 := GR) S y5 (fun x q w => ⟨(o1 x (e1 x (p1 x q.1))).2.1, by have := q.2; omega⟩) (fun x q w => S.2.2.2.1 x q (o1 x (e1 x (p1 x w.1))).1) (fun x q z => ?_) (fun x q => ?_) (fun x q w => ?_) ?_ hk2 hk3 g1 g2.1 g2.2 hFl (fun x q => ?_) ?_ (by simpa using g3) (by simpa using g4))
  · rw [hk1]
    refine ⟨q, fun y => ?_⟩
    have := (o1 x (e2 x (b1 x y).1)).2
    rcases z with z | z | z | z | z
    · exact this.1 z
    · exact this.2.1 z
    · exact this.2.2.1 z
    · exact this.2.2.2.1 z
    · exact this.2.2.2.2 z
  · rw [hk1] at q
    have := hO x q.1; omega
  · rw [hk1] at w
    exact S.2.2.2.1 x q w.1
  · rw [hk1]
    refine ⟨fun x => FL x ∨ GB x, fun x q => ?_, ?_⟩
    · rcases q with q | q
      · exact ⟨(l1 x q).1, Nat.lt_of_lt_of_le (l1 x q).2.1 hn, fun w => (l1 x q).2.2 w.1⟩
      · have := hO x (o1 x (e2 x (b1 x q).1)).1
        exact ⟨(b1 x q).2, by omega, fun w => w.2 q⟩
    · rw [List.map_append]
      exact sep_app.mpr ⟨GB, FL, fun x q => Or.inr q, fun x q => Or.inl q, fun x q w => (l1 x w).2.2 (o1 x (e2 x (b1 x q).1)).1, sep_ex y5 im _ GB (fun x q w => e3 x (p1 x w.1) (b1 x q).1) b2, sep_ex y5 im M FL (fun x q w => (l1 x q).2.2 (o1 x (e1 x (p1 x w.1))).1) l2⟩
  · rw [hk1]
    exact ⟨⟨(o1 x (e1 x q)).1, fun y => e3 x q (b1 x y).1⟩, (o1 x (e1 x q)).2⟩
  · refine sep_perm (hk4.map _) ?_
    exact ⟨G, F1, p1, p2, p3, y1, sep_ex y5 im R F1 (fun x q w => p3 x w.1 q) p5⟩
end YOw2
