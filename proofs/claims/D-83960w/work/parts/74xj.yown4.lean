set_option maxRecDepth 100000
/-! THE HOUSE'S PARSER: infix names told and forgotten; new declarations -/
section YOw4
variable {C : YC} {B P O : Nat → Prop} {X : Nat → Nat} {t : List Int} {Γ : Gm} {H H' : YS} {σ σ1 : Ps} {η η' η1 : Et} {M : List (Gt × Option Nat)} {g h g' h' : Int} {a e c s d dp n cap N : Nat} {F F' : List (List Int × Int × Int)} {Q : Option (Option ZV) → YS → Prop} {r : (Int × Nat) ⊕ (Gt × Ps)} {l : List Gt} {θ : Gt} {w : Option Nat} {f : Ps → PR} {v : Ve} {V : List Ve}
theorem SS_fx (S : SS C B X t Γ H σ η M g h) : ∃ e xs, AlY H (X 9) e (es η) xs ∧ xs.length = (pF σ).length := by
  obtain ⟨O2, o1, G, F1, q1, -, -, q2, -⟩ := S.1.1.2.2.2.2.2.2.2
  obtain ⟨e, cap, xs, A, hp, hl, hx⟩ := YO_list (C := C) (B := B) (H := H) (p := [[(es η : Int)]]) (l := stT (pF σ)) (show YO C B H (oC (es η) (stT (pF σ))) G (some (X 9)) from q2)
  have hc : cap = es η := by
    rcases hp with w | w
    · cases w
    · have := (List.cons.inj (List.cons.inj w).1).1
      omega
  subst hc
  refine ⟨e, xs, A, ?_⟩
  rw [hl]
  unfold stT
  rw [List.length_map, List.length_reverse]
theorem gk_oF {f : Nat} {θ : Gt} : gk (oF f θ) - 200 = f := Nat.add_sub_cancel_left ..
theorem allI_R {f b : Nat} {w : Option Nat} {p : List Int} (q : allI H a p) : allI (yputR H f b w) a p := allI_ex (H := H) (H' := yputR H f b w) (l := []) (fun _ => rfl) p q
theorem stT_c {f : List Int × Int × Int} {F : List (List Int × Int × Int)} : stT (f :: F) = stT F ++ [oG f.2.1 f.2.2 f.1] := by
  unfold stT
  rw [List.reverse_cons, List.map_append]; rfl
theorem stT_l {F : List (List Int × Int × Int)} : (stT F).length = F.length := by
  unfold stT
  rw [List.length_map, List.length_reverse]
theorem zW_drop {k : YS → ZR YS} {G F0 : List (List Int × Int × Int)} (hd : 8 ≤ d) (hF : pF σ = G ++ F0) (S : SS C B X t Γ H σ η M g h) (hk : ∀ H1 η1, SS C B X t Γ H1 (psF σ F0) η1 M g h → Et1 η η1 → zW (k H1) Q) : zW (zV (ycv (YL C) d [(6, 155)] (some (X 8)) [.inl (F0.length : Int)] H) k) Q := by
  obtain ⟨d, rfl⟩ : ∃ e, d = e + 1 := ⟨d - 1, by omega⟩
  rw [ycv_s (SS_8 S) ⟨by decide, rfl⟩]
  refine zW_V (P := fun H1 => ∃ η1, SS C B X t Γ H1 (psF σ F0) η1 M g h ∧ Et1 η η1) (T := fun _ => False) (zW_c ?_) (fun H1 ⟨η1, w1, w2⟩ => hk H1 η1 w1 w2) (fun _ w => w.elim)
  have key : ∀ (G : List (List Int × Int × Int)) (H : YS) (σ' : Ps) (η' : Et), σ' = psF σ (G ++ F0) → SS C B X t Γ H σ' η' M g h → Et1 η η' → zW (YL C d 155 [zr (X 8), .inl (F0.length : Int)] H) (oV (fun H1 => ∃ η1, SS C B X t Γ H1 (psF σ F0) η1 M g h ∧ Et1 η η1) (fun _ => False)) := by
    intro G
    induction G with
    | nil =>
      intro H σ' η' e S q
      obtain ⟨d, rfl⟩ : ∃ e, d = e + 1 := ⟨d - 1, by omega⟩
      subst e
      obtain ⟨e0, xs, A, hl⟩ := SS_fx S
      refine yl_Parser_drop ?_
      unfold yb_Parser_drop
      refine zW_gR (SS_8 S) rfl ?_
      rw [S.1.1.2.2.1.2.2.2.2.1, ycv_s A.2.1 ⟨by decide, rfl⟩]
      refine zW_Ie (y_size A) ?_
      rw [hl]
      exact zW_t (Int.le_refl _) (zW_rV ⟨η', S, q⟩)
    | cons f G ih =>
      intro H σ' η' e S q
      obtain ⟨d, rfl⟩ : ∃ e, d = e + 1 := ⟨d - 1, by omega⟩
      have hpf : pF σ' = f :: (G ++ F0) := by rw [e]; rfl
      obtain ⟨e0, xs, A, hl⟩ := SS_fx S
      have r9 := S.1.1.2.2.1.2.2.2.2.1
      have g7 := S.1.1.2.2.2.2.2.2.1
      have hFl := S.1.2.2.2.2.2.2.2
      rw [hpf] at hl g7 hFl
      have hl : xs.length = (G.length + F0.length) + 1 := by rw [hl, List.length_cons, List.length_append]
      have hFl : (G ++ F0).length + 1 ≤ 100000 + pq σ' := hFl
      have hb := A.2.2.2.2.2.2.2.2.1
      have hes := g7.1.1
      refine yl_Parser_drop ?_
      unfold yb_Parser_drop
      refine zW_gR (SS_8 S) rfl ?_
      rw [r9, ycv_s A.2.1 ⟨by decide, rfl⟩]
      refine zW_Ie (y_size A) (zW_f (by omega) (zW_gR (SS_8 S) rfl ?_))
      rw [r9]
      refine zW_gR (SS_8 S) rfl ?_
      rw [r9, ycv_s A.2.1 ⟨by decide, rfl⟩]
      refine zW_Ie (y_size A) (zW_G (by omega) ?_)
      have hll : (xs.length : Int) - 1 = ((stT (G ++ F0)).length : Int) := by rw [stT_l, List.length_append]; omega
      rw [hll]
      refine zW_opop (F' := G ++ F0) (θ := oG f.2.1 f.2.2 f.1) (l := stT (G ++ F0)) (cap := es η') (R := (oC (ev η') ((eV η').reverse.map fun v => oA v.1), some (X 10)) :: (eV η').flatMap veM) (E := []) (g' := g) (h' := h) (by omega) (by omega) (by omega) S ?_ (fun O' => (O', η'.2)) (fun O' => ⟨rfl, rfl, rfl, List.Perm.refl _⟩) (fun q hq => by cases hq) (fun O' => ⟨⟨⟨g7.1.1, fun x hx => g7.1.2 x (List.mem_cons_of_mem _ hx)⟩, g7.2⟩, ⟨S.2.2.2.2.2.2.1, (show (eV η').length ≤ pd σ' + 1 from SS_vl S)⟩, ?_, ?_⟩) (fun O' H1 w _ S1 => ?_)
      · rw [hpf]
        unfold ovM
        rw [stT_c, List.append_nil]
      · show (ccV (eV η') : Int) + g ≤ _
        omega
      · show crV (eV η') + 4 * ((es η' : Int) + ev η') + h ≤ crV (eV η') + 4 * ((es η' : Int) + ev η') + h
        omega
      · refine ih H1 (psF σ' (G ++ F0)) (O', η'.2) ?_ S1 q
        rw [e]; rfl
  refine key G H σ η ?_ S ⟨rfl, rfl⟩
  rw [← hF]; rfl
theorem SS_addN {kd f : Nat} {p : List Int} (hkd : kd < 100) (hf : yR H f a = none) (S : SS C B X t Γ H σ η ((gn kd [p] [], some a) :: M) g h) : SS C B X t Γ H σ η ((gn kd [p] [oF f oN], some a) :: M) g h := by
  obtain ⟨F, h1, G, F1, g1, g2, g3, g4, g5⟩ := S.2.1
  have g4 : YO C B H (gn kd [p] []) G (some a) := g4
  rw [YO_gn] at g4
  unfold hoA at g4
  rw [if_pos hkd] at g4
  obtain ⟨a', ha, q1, q2, q3, q4, q5⟩ := g4
  cases ha
  refine ⟨S.1, ⟨F, h1, G, F1, g1, g2, g3, ?_, g5⟩, S.2.2⟩
  show YO C B H (gn kd [p] [oF f oN]) G (some a)
  rw [YO_gn]
  unfold hoA
  rw [if_pos hkd]
  refine ⟨a, rfl, q1, q2, q3, q4, fun _ => False, fun _ => False, fun _ w => w.elim, fun _ w => w.elim, fun _ w => w.elim, ?_, trivial⟩
  show YO C B H (oF f oN) (fun _ => False) (yR H (200 + f - 200) a)
  rw [Nat.add_sub_cancel_left, hf]
  refine YO_oF.mpr ?_
  unfold oN
  rw [YO_gn]
  unfold hoA
  rw [if_neg (by decide), if_pos rfl]
theorem zW_strength {k : YS → ZR YS} {x y : Int} {p0 : List Int} {b : List Int} (hd : 3 ≤ d) (hy : y = 0 ∨ y = 1) (S : SS C B X t Γ H σ η ((gn 7 [p0] [oF 2100 oN], some a) :: (oS b, some s) :: M) g h) (hk : ∀ H1, ImY C B H1 106 [[x, y], b] a → SS C B X t Γ H1 σ η M g h → zW (k H1) Q) : zW (zV (ycs (YL C) d 167 (some a) [.inr (.inr (some s)), .inl x, .inl y] H) k) Q := by
  obtain ⟨d, rfl⟩ : ∃ e, d = e + 1 := ⟨d - 1, by omega⟩
  obtain ⟨F, h1, G, F1, g1, g2, g3, g4, G2, F2, p1, p2, p3, p4, p5⟩ := S.2.1
  have g4 : YO C B H (gn 7 [p0] [oF 2100 oN]) G (some a) := g4
  rw [YO_gn] at g4
  unfold hoA at g4
  rw [if_pos (by decide)] at g4
  obtain ⟨a', ha, q1, q2, q3, q4, A1, A2, r1, r2, r3, r4, -⟩ := g4
  cases ha
  have r4 : YO C B H (oF 2100 oN) A1 (yR H 2100 a) := r4
  have r5 := YO_oF.mp r4
  unfold oN at r5
  rw [YO_gn] at r5
  unfold hoA at r5
  rw [if_neg (by decide), if_pos rfl] at r5
  have p4 : YO C B H (gn 101 [b] []) G2 (some s) := p4
  obtain ⟨s', es', hs⟩ := YO_im (Or.inl rfl) p4
  cases es'
  have hs : StrY B H s b := hs.2
  have im : Im B (fun x => x = a) H := by
    refine ⟨fun z w1 w2 => ?_, fun z w1 w2 => ?_⟩ <;> rw [w1, q3]
    · omega
    · exact ⟨by decide, by decide, by decide, by decide, by decide, fun _ => r5⟩
  have hn := h1 a (g1 a q1)
  have ex : yEx (fun x => x = a) 0 0 H (yput (yput (yputR H 2100 a (some s)) 2101 a x) 2102 a y) := yEx_put (yEx_put (yEx_putR yEx_refl (fun _ => rfl)) (fun _ => rfl)) (fun _ => rfl)
  rw [ycs_s]
  refine zW_Ve (S := yput (yput (yputR H 2100 a (some s)) 2101 a x) 2102 a y) (zW_get (yl_Strength_init ?_)) (hk _ ⟨q2, q3, (yput_f (by decide)).trans yput_at, yput_at, s, yputR_at, StrY_ex hs ex im.1⟩ (SS_mono (SS_loc S ex im (fun z _ w => by rw [w]; exact ⟨hn.1, hn.2.2⟩) ⟨F2, fun z w => ⟨(h1 z (g2 z (p2 z w))).1, (h1 z (g2 z (p2 z w))).2.1, (h1 z (g2 z (p2 z w))).2.2⟩, sep_ex ex im M F2 (fun z w1 w2 => g3 a q1 (p2 a (w2 ▸ w1))) p5⟩) (by omega) (by omega)))
  unfold yb_Strength_init
  exact zW_nn (zW_pR q3 (by decide) (zW_pI (by exact q3) (by decide) rfl (zW_pI (by exact q3) (by decide) (by rcases hy with q | q <;> rw [q] <;> rfl) (zW_rV ⟨rfl, rfl⟩))))
theorem YO_str {x y : Int} {b : List Int} (hs : ImY C B H 106 [[x, y], b] s) : ∀ H1' c s' (P : Nat → Prop), (∀ x, P x → x < ynx H → yK H x = 5 ∨ yK H x = 1005) → yEx P c s' H H1' → YO C B H1' (oG x y b) (fun _ => False) (some s) := by
  intro H1' c s' P hP ex
  have im : Im B P H := by
    refine ⟨fun x w1 w2 => ?_, fun x w1 w2 => ?_⟩ <;> have := hP x w1 w2 <;> omega
  have := ImY_ex hs ex im
  unfold oG
  rw [YO_gn]
  unfold hoA
  rw [if_neg (by omega), if_neg (by omega), if_neg (by omega), if_neg (by omega), if_neg (by omega), if_pos (by omega)]
  exact ⟨s, rfl, this⟩
/-- an infix name comes to the owner's list -/
theorem zW_fixadd {k : Int → YS → ZR YS} {x y : Int} {b : List Int} (hd : 8 ≤ d) (hb : b.length ≤ 200) (hl : (pF σ).length + 1 ≤ 100000 + pq σ) (hq : pq σ ≤ 100000) (hs : ImY C B H 106 [[x, y], b] s) (S : SS C B X t Γ H σ η M g h) (hk : ∀ H1 η1, SS C B X t Γ H1 (psF σ ((b, x, y) :: pF σ)) η1 M (g + 1) h → Et1 η η1 → zW (k 1 H1) Q) : zW (zI (ycv (YL C) d [(5, 505)] (some (X 9)) [.inr (.inr (some s))] H) k) Q := by
  have g7 := S.1.1.2.2.2.2.2.2.1
  obtain ⟨e0, xs, A, hxl⟩ := SS_fx S
  refine zW_oadd (F' := (b, x, y) :: pF σ) (θ := oG x y b) (l := stT (pF σ)) (cap := es η) (g' := g + 1) (h' := h) 0 0 false hd (by show (pF σ).length + 1 ≤ _; omega) S (by omega) rfl (Nat.zero_le _) (fun z hz => ?_) (YO_str hs) (fun cap1 O' => (O', (ec η, cap1, ev η), et η, eV η)) (fun cap1 H2 c1 c2 => ⟨rfl, rfl, rfl, ?_⟩) (fun cap1 O' c1 c2 => ⟨⟨⟨?_, ?_⟩, g7.2⟩, ⟨S.2.2.2.2.2.2.1, (show (eV η).length ≤ pd σ + 1 from SS_vl S)⟩, ?_, ?_⟩) (fun cap1 O' H2 c1 S2 => hk H2 _ S2 ⟨rfl, rfl⟩)
  · cases hz
    exact ⟨hs.1, by rw [hs.2.1]; exact yokE_72 7 (by decide)⟩
  · unfold ovM
    rw [stT_c]; rfl
  · show cap1 ≤ 1000000
    rw [stT_l] at c2
    have := g7.1.1
    omega
  · intro f hf
    rcases List.mem_cons.mp hf with rfl | hf
    · exact hb
    · exact g7.1.2 f hf
  · show (1 : Int) + ccV (eV η) + g ≤ _
    omega
  · show _ + crV (eV η) + 4 * ((es η : Int) + ev η) + h ≤ crV (eV η) + 4 * ((cap1 : Int) + ev η) + h
    omega
/-! new declarations -/
theorem m_Values {k : YS → ZR YS} {kd : Nat} {p0 : List Int} (hd : 8 ≤ d) (hkd : kd = 24 ∨ kd = 58) (S : SS C B X t Γ H σ η ((gn kd [p0] [], some a) :: M) g h) (hk : ∀ H1 l1 l2, SS C B X t Γ H1 σ η ((gn kd [p0] [oF 7200 (oA l1), oF 7201 (oA l2)], some a) :: (oC 0 [], some l1) :: (oC 0 [], some l2) :: M) (g + 2) (h + 6) → zW (k H1) Q) : zW (zV (ycs (YL C) d 320 (some a) [] H) k) Q := by
  obtain ⟨d, rfl⟩ : ∃ e, d = e + 2 := ⟨d - 2, by omega⟩
  have hkd' : kd < 100 ∧ kd ≠ 21 ∧ kd ≠ 22 ∧ kd ≠ 26 ∧ kd ≠ 27 ∧ kd ≠ 7 := by omega
  rw [ycs_s]
  refine zW_V (P := fun H1 => ∃ l1 l2, SS C B X t Γ H1 σ η ((gn kd [p0] [oF 7200 (oA l1), oF 7201 (oA l2)], some a) :: (oC 0 [], some l1) :: (oC 0 [], some l2) :: M) (g + 2) (h + 6)) (T := fun _ => False) (zW_c (yl_Values_init ?_)) (fun H1 ⟨l1, l2, w⟩ => hk H1 l1 l2 w) (fun _ w => w.elim)
  unfold yb_Values_init
  rw [ycs_s]
  refine zW_Ve (S := H) c_Dec ?_
  refine zW_alnew (by omega) S (fun H1 l1 S1 => ?_)
  have S2 := SS_pk 2 [1, 0] rfl rfl S1
  obtain ⟨_, e, k1, k2, -⟩ := Lv_at hkd'.1 S2.2.1
  cases e
  have hyk : kd < 72 ∧ yokF 7200 kd = true ∧ yokF 7201 kd = true := by
    rcases hkd with q | q <;> rw [q] <;> exact ⟨by decide, by decide, by decide⟩
  refine zW_pR k2 ⟨hyk.1, hyk.2.1⟩ ?_
  have S3 := SS_wr (p' := p0) [(7200, l1)] hkd' S2 (yEx_putR (f := 7200) (w := some l1) yEx_refl (fun _ => rfl)) (fun q => allI_R q) (fun q w => by cases w) (fun q w => by rw [List.mem_singleton.mp w]; exact yputR_at)
  refine zW_alnew (by omega) S3 (fun H4 l2 S4 => ?_)
  have S5 := SS_pk 2 [1, 0] rfl rfl S4
  obtain ⟨_, e, k3, k4, -⟩ := Lv_at hkd'.1 S5.2.1
  cases e
  refine zW_pR k4 ⟨hyk.1, hyk.2.2⟩ (zW_rV ⟨l1, l2, ?_⟩)
  have S6 := SS_wr (p' := p0) [(7201, l2)] hkd' S5 (yEx_putR (f := 7201) (w := some l2) yEx_refl (fun _ => rfl)) (fun q => allI_R q) (fun q w => by rw [List.mem_singleton.mp w, gk_oF]; exact yputR_f (show (7200 : Nat) ≠ 7201 by decide)) (fun q w => by rw [List.mem_singleton.mp w]; exact yputR_at)
  exact SS_mono (SS_pk 3 [0, 2, 1] rfl rfl S6) (by omega) (by omega)
theorem m_ValDec {k : YS → ZR YS} {p0 : List Int} (hd : 10 ≤ d) (S : SS C B X t Γ H σ η ((gn 24 [p0] [], some a) :: M) g h) (hk : ∀ H1 l1 l2 l3 l4, SS C B X t Γ H1 σ η ((gn 24 [p0] [oF 7200 (oA l1), oF 7201 (oA l2), oF 7204 (oA l3), oF 7205 (oA l4)], some a) :: (oC 0 [], some l1) :: (oC 0 [], some l2) :: (oC 1 [], some l3) :: (oC 1 [], some l4) :: M) (g + 6) (h + 14) → zW (k H1) Q) : zW (zV (ycs (YL C) d 324 (some a) [] H) k) Q := by
  obtain ⟨d, rfl⟩ : ∃ e, d = e + 2 := ⟨d - 2, by omega⟩
  rw [ycs_s]
  refine zW_V (P := fun H1 => ∃ l1 l2 l3 l4, SS C B X t Γ H1 σ η ((gn 24 [p0] [oF 7200 (oA l1), oF 7201 (oA l2), oF 7204 (oA l3), oF 7205 (oA l4)], some a) :: (oC 0 [], some l1) :: (oC 0 [], some l2) :: (oC 1 [], some l3) :: (oC 1 [], some l4) :: M) (g + 6) (h + 14)) (T := fun _ => False) (zW_c (yl_ValDec_init ?_)) (fun H1 ⟨l1, l2, l3, l4, w⟩ => hk H1 l1 l2 l3 l4 w) (fun _ w => w.elim)
  unfold yb_ValDec_init
  refine m_Values (by omega) (Or.inl rfl) S (fun H0 l1 l2 S0 => ?_)
  refine zW_alnewN (n := 1) (by omega) (by omega) S0 (fun H1 l3 S1 => ?_)
  have S2 := SS_pk 2 [1, 0] rfl rfl S1
  obtain ⟨_, e, k1, k2, -⟩ := Lv_at (by decide) S2.2.1
  cases e
  refine zW_pR k2 (by decide) ?_
  have S3 := SS_wr (p' := p0) [(7204, l3)] (by decide) S2 (yEx_putR (f := 7204) (w := some l3) yEx_refl (fun _ => rfl)) (fun q => allI_R q) (fun q w => by rcases List.mem_cons.mp w with rfl | w; rw [gk_oF]; exact yputR_f (show (7200 : Nat) ≠ 7204 by decide); rw [List.mem_singleton.mp w, gk_oF]; exact yputR_f (show (7201 : Nat) ≠ 7204 by decide)) (fun q w => by rw [List.mem_singleton.mp w]; exact yputR_at)
  refine zW_alnewN (n := 1) (by omega) (by omega) S3 (fun H4 l4 S4 => ?_)
  have S5 := SS_pk 2 [1, 0] rfl rfl S4
  obtain ⟨_, e, k3, k4, -⟩ := Lv_at (by decide) S5.2.1
  cases e
  refine zW_pR k4 (by decide) (zW_rV ⟨l1, l2, l3, l4, ?_⟩)
  have S6 := SS_wr (p' := p0) [(7205, l4)] (by decide) S5 (yEx_putR (f := 7205) (w := some l4) yEx_refl (fun _ => rfl)) (fun q => allI_R q) (fun q w => by rcases List.mem_cons.mp w with rfl | w; rw [gk_oF]; exact yputR_f (show (7200 : Nat) ≠ 7205 by decide); rcases List.mem_cons.mp w with rfl | w; rw [gk_oF]; exact yputR_f (show (7201 : Nat) ≠ 7205 by decide); rw [List.mem_singleton.mp w, gk_oF]; exact yputR_f (show (7204 : Nat) ≠ 7205 by decide)) (fun q w => by rw [List.mem_singleton.mp w]; exact yputR_at)
  exact SS_mono (SS_pk 5 [0, 3, 4, 2, 1] rfl rfl S6) (by omega) (by omega)
theorem m_FunDec {k : YS → ZR YS} {p0 : List Int} (hd : 10 ≤ d) (S : SS C B X t Γ H σ η ((gn 58 [p0] [], some a) :: M) g h) (hk : ∀ H1 l1 l2 l3, SS C B X t Γ H1 σ η ((gn 58 [p0] [oF 7200 (oA l1), oF 7201 (oA l2), oF 17404 (oA l3)], some a) :: (oC 0 [], some l1) :: (oC 0 [], some l2) :: (oC 0 [], some l3) :: M) (g + 3) (h + 9) → zW (k H1) Q) : zW (zV (ycs (YL C) d 453 (some a) [] H) k) Q := by
  obtain ⟨d, rfl⟩ : ∃ e, d = e + 2 := ⟨d - 2, by omega⟩
  rw [ycs_s]
  refine zW_V (P := fun H1 => ∃ l1 l2 l3, SS C B X t Γ H1 σ η ((gn 58 [p0] [oF 7200 (oA l1), oF 7201 (oA l2), oF 17404 (oA l3)], some a) :: (oC 0 [], some l1) :: (oC 0 [], some l2) :: (oC 0 [], some l3) :: M) (g + 3) (h + 9)) (T := fun _ => False) (zW_c (yl_FunDec_init ?_)) (fun H1 ⟨l1, l2, l3, w⟩ => hk H1 l1 l2 l3 w) (fun _ w => w.elim)
  unfold yb_FunDec_init
  refine m_Values (by omega) (Or.inr rfl) S (fun H0 l1 l2 S0 => ?_)
  refine zW_alnew (by omega) S0 (fun H1 l3 S1 => ?_)
  have S2 := SS_pk 2 [1, 0] rfl rfl S1
  obtain ⟨_, e, k1, k2, -⟩ := Lv_at (by decide) S2.2.1
  cases e
  refine zW_pR k2 (by decide) (zW_rV ⟨l1, l2, l3, ?_⟩)
  have S3 := SS_wr (p' := p0) [(17404, l3)] (by decide) S2 (yEx_putR (f := 17404) (w := some l3) yEx_refl (fun _ => rfl)) (fun q => allI_R q) (fun q w => by rcases List.mem_cons.mp w with rfl | w; rw [gk_oF]; exact yputR_f (show (7200 : Nat) ≠ 17404 by decide); rw [List.mem_singleton.mp w, gk_oF]; exact yputR_f (show (7201 : Nat) ≠ 17404 by decide)) (fun q w => by rw [List.mem_singleton.mp w]; exact yputR_at)
  exact SS_mono (SS_pk 4 [0, 2, 3, 1] rfl rfl S3) (by omega) (by omega)
theorem m_Fun {k : YS → ZR YS} {x : Int} {p0 : List Int} (hd : 8 ≤ d) (S : SS C B X t Γ H σ η ((gn 59 [p0] [], some a) :: M) g h) (hk : ∀ H1 l1, SS C B X t Γ H1 σ η ((oO 59 [17700, x] [oF 17701 (oA l1)], some a) :: (oC 0 [], some l1) :: M) (g + 1) (h + 3) → zW (k H1) Q) : zW (zV (ycs (YL C) d 456 (some a) [.inl x] H) k) Q := by
  obtain ⟨d, rfl⟩ : ∃ e, d = e + 2 := ⟨d - 2, by omega⟩
  rw [ycs_s]
  refine zW_V (P := fun H1 => ∃ l1, SS C B X t Γ H1 σ η ((oO 59 [17700, x] [oF 17701 (oA l1)], some a) :: (oC 0 [], some l1) :: M) (g + 1) (h + 3)) (T := fun _ => False) (zW_c (yl_Fun_init ?_)) (fun H1 ⟨l1, w⟩ => hk H1 l1 w) (fun _ w => w.elim)
  unfold yb_Fun_init
  refine zW_nn (zW_alnew (by omega) S (fun H1 l1 S1 => ?_))
  have S2 := SS_pk 2 [1, 0] rfl rfl S1
  obtain ⟨_, e, k1, k2, -⟩ := Lv_at (by decide) S2.2.1
  cases e
  refine zW_pR k2 (by decide) (zW_pI (by exact k2) (by decide) rfl (zW_rV ⟨l1, ?_⟩))
  have S3 := SS_wr (p' := [17700, x]) [(17701, l1)] (by decide) S2 (yEx_put (f := 17700) (v := x) (yEx_putR (f := 17701) (w := some l1) yEx_refl (fun _ => rfl)) (fun _ => rfl)) (fun q => ⟨yput_at, trivial⟩) (fun q w => by cases w) (fun q w => by rw [List.mem_singleton.mp w]; exact yputR_at)
  exact SS_mono (SS_pk 2 [0, 1] rfl rfl S3) (by omega) (by omega)
theorem m_DataDec {k : YS → ZR YS} {p0 : List Int} (hd : 8 ≤ d) (S : SS C B X t Γ H σ η ((gn 62 [p0] [], some a) :: M) g h) (hk : ∀ H1 l1, SS C B X t Γ H1 σ η ((gn 62 [p0] [oF 18600 (oA l1)], some a) :: (oC 0 [], some l1) :: M) (g + 1) (h + 3) → zW (k H1) Q) : zW (zV (ycs (YL C) d 464 (some a) [] H) k) Q := by
  obtain ⟨d, rfl⟩ : ∃ e, d = e + 2 := ⟨d - 2, by omega⟩
  rw [ycs_s]
  refine zW_V (P := fun H1 => ∃ l1, SS C B X t Γ H1 σ η ((gn 62 [p0] [oF 18600 (oA l1)], some a) :: (oC 0 [], some l1) :: M) (g + 1) (h + 3)) (T := fun _ => False) (zW_c (yl_DataDec_init ?_)) (fun H1 ⟨l1, w⟩ => hk H1 l1 w) (fun _ w => w.elim)
  unfold yb_DataDec_init
  rw [ycs_s]
  refine zW_Ve (S := H) c_Dec ?_
  refine zW_alnew (by omega) S (fun H1 l1 S1 => ?_)
  have S2 := SS_pk 2 [1, 0] rfl rfl S1
  obtain ⟨_, e, k1, k2, -⟩ := Lv_at (by decide) S2.2.1
  cases e
  refine zW_pR k2 (by decide) (zW_rV ⟨l1, ?_⟩)
  have S3 := SS_wr (p' := p0) [(18600, l1)] (by decide) S2 (yEx_putR (f := 18600) (w := some l1) yEx_refl (fun _ => rfl)) (fun q => allI_R q) (fun q w => by cases w) (fun q w => by rw [List.mem_singleton.mp w]; exact yputR_at)
  exact SS_mono (SS_pk 2 [0, 1] rfl rfl S3) (by omega) (by omega)
theorem m_DataOne {k : YS → ZR YS} {x : Int} {p0 : List Int} {x1 x2 : Nat} {θ1 θ2 : Gt} (hd : 8 ≤ d) (S : SS C B X t Γ H σ η ((gn 63 [p0] [], some a) :: (θ1, some x1) :: (θ2, some x2) :: M) g h) (hk : ∀ H1 l1, SS C B X t Γ H1 σ η ((oO 63 [18902, x] [oF 18903 (oA l1), oF 18900 θ1, oF 18901 θ2], some a) :: (oC 0 [], some l1) :: M) (g + 1) (h + 3) → zW (k H1) Q) : zW (zV (ycs (YL C) d 470 (some a) [.inr (.inr (some x1)), .inr (.inr (some x2)), .inl x] H) k) Q := by
  obtain ⟨d, rfl⟩ : ∃ e, d = e + 2 := ⟨d - 2, by omega⟩
  rw [ycs_s]
  refine zW_V (P := fun H1 => ∃ l1, SS C B X t Γ H1 σ η ((oO 63 [18902, x] [oF 18903 (oA l1), oF 18900 θ1, oF 18901 θ2], some a) :: (oC 0 [], some l1) :: M) (g + 1) (h + 3)) (T := fun _ => False) (zW_c (yl_DataOne_init ?_)) (fun H1 ⟨l1, w⟩ => hk H1 l1 w) (fun _ w => w.elim)
  unfold yb_DataOne_init
  refine zW_nn (zW_alnew (by omega) S (fun H1 l1 S1 => ?_))
  have S2 := SS_pk 2 [1, 0] rfl rfl S1
  obtain ⟨_, e, k1, k2, -⟩ := Lv_at (by decide) S2.2.1
  cases e
  refine zW_pR k2 (by decide) (zW_pR (by exact k2) (by decide) (zW_pR (by exact k2) (by decide) (zW_pI (by exact k2) (by decide) rfl (zW_rV ⟨l1, ?_⟩))))
  have S3 := SS_wr (p' := [18902, x]) [(18903, l1), (18900, x1), (18901, x2)] (by decide) S2 (yEx_put (f := 18902) (v := x) (yEx_putR (f := 18901) (w := some x2) (yEx_putR (f := 18900) (w := some x1) (yEx_putR (f := 18903) (w := some l1) yEx_refl (fun _ => rfl)) (fun _ => rfl)) (fun _ => rfl)) (fun _ => rfl)) (fun q => ⟨yput_at, trivial⟩) (fun q w => by cases w) (fun q w => ?_)
  · have S4 := SS_pk 4 [0, 2, 3, 1] rfl rfl S3
    have S5 := SS_nest [oF 18903 (oA l1)] (by decide) S4
    have S6 := SS_nest [oF 18903 (oA l1), oF 18900 θ1] (by decide) S5
    exact SS_mono S6 (by omega) (by omega)
  · rcases List.mem_cons.mp w with rfl | w
    · exact (yputR_f (show (18903 : Nat) ≠ 18901 by decide)).trans ((yputR_f (show (18903 : Nat) ≠ 18900 by decide)).trans yputR_at)
    rcases List.mem_cons.mp w with rfl | w
    · exact (yputR_f (show (18900 : Nat) ≠ 18901 by decide)).trans yputR_at
    rw [List.mem_singleton.mp w]
    exact yputR_at
end YOw4
