set_option maxRecDepth 100000
/-! THE HOUSE'S PARSER: what is looked at; names -/
section YTst
variable {C : YC} {B P O : Nat → Prop} {X : Nat → Nat} {t : List Int} {Γ : Gm} {H H' : YS} {σ σ1 : Ps} {η η1 : Et} {M : List (Gt × Option Nat)} {g h g' h' : Int} {a e c s d dp n : Nat} {F : List (List Int × Int × Int)} {Q : Option (Option ZV) → YS → Prop} {r : (Int × Nat) ⊕ (Gt × Ps)} {tk : Tok}
theorem y_isName (hD : KD C) (h : TokY C B H a tk) (hk : tk.1 ≤ 6) : YL C d 317 [zr a] H = some (some (some (.inl (if tk.1 = 1 then 1 else 0))), H) := by
  refine zW_get (yl_Token_isName ?_)
  unfold yb_Token_isName
  refine zW_gR h.2.1 rfl (zW_svR ?_)
  rw [h.2.2.1]
  refine zW_if (fun y => zW_rN rfl ⟨?_, rfl⟩) (fun y => zW_rN rfl ⟨?_, rfl⟩)
  · rw [if_pos (hD tk.1 1 hk (by decide) y)]
  · rw [if_neg (fun q => y (by rw [q]; rfl))]
theorem y_isName2 {b : List Int} {x : Nat} (hD : KD C) (hC : CW C) (h : TokY C B H a tk) (hk : tk.1 ≤ 6 ∧ tk.2.2.1.length ≤ 200) (hs : StrY B H x b) : YL C (d + 2) 318 [zr a, zr x] H = some (some (some (.inl (if tk.1 = 1 ∧ tk.2.2.1 = b then 1 else 0))), H) := by
  obtain ⟨s, h5, h6⟩ := h.2.2.2.2.1
  refine zW_get (yl_Token_isName_2 ?_)
  unfold yb_Token_isName_2
  refine zW_gR h.2.1 rfl (zW_svR ?_)
  rw [h.2.2.1]
  refine zW_if (fun y => zW_gR h.2.1 rfl ?_) (fun y => zW_rN rfl ⟨?_, rfl⟩)
  · have k1 := hD tk.1 1 hk.1 (by decide) y
    rw [h5, ycv_str h6.2.1]
    refine zW_Ie (y_equals hC h6 hs (by omega)) (zW_if (fun z => zW_rN rfl ⟨?_, rfl⟩) (fun z => zW_rN rfl ⟨?_, rfl⟩))
    · rw [if_neg]
      rintro ⟨-, q⟩
      rw [if_pos q] at z
      cases z
    · rw [if_pos]
      refine ⟨k1, ?_⟩
      by_cases w : tk.2.2.1 = b
      · exact w
      · rw [if_neg w] at z; exact absurd rfl z
  · rw [if_neg]
    rintro ⟨q, -⟩
    exact y (by rw [q]; rfl)
/-- rules: whether it is a name, of which kind -/
theorem zW_isNm {k : Int → YS → ZR YS} (hd : 1 ≤ d) (S : SS C B X t Γ H σ η M g h) (h1 : (pc σ).1 = 1 → zW (k 1 H) Q) (h0 : (pc σ).1 ≠ 1 → zW (k 0 H) Q) : zW (ygR 1804 (some (X 8)) H fun v => zI (ycv (YL C) d [(22, 317)] v [] H) k) Q := by
  obtain ⟨d, rfl⟩ : ∃ e, d = e + 1 := ⟨d - 1, by omega⟩
  obtain ⟨a, e, tk⟩ := SS_c S
  refine zW_gR (SS_8 S) rfl ?_
  rw [e, ycv_s tk.2.1 ⟨by decide, rfl⟩]
  refine zW_Ie (y_isName (SS_D S) tk (SS_tk S).1) ?_
  by_cases q : (pc σ).1 = 1
  · rw [if_pos q]; exact h1 q
  · rw [if_neg q]; exact h0 q
theorem zW_kd {A D : ZR YS} (kd j : Nat) (hk : kd ≤ 6) (hj : C.2.2.1 j = tkK C kd) (S : SS C B X t Γ H σ η M g h) (h1 : (pc σ).1 = kd → zW A Q) (h0 : (pc σ).1 ≠ kd → zW D Q) : zW (ygR 1804 (some (X 8)) H fun v => ygR 6600 v H fun v2 => ysvR C j fun v3 => if v2 = v3 then A else D) Q := by
  obtain ⟨a, e, tk⟩ := SS_c S
  refine zW_gR (SS_8 S) rfl ?_
  rw [e]
  refine zW_gR tk.2.1 rfl (zW_svR ?_)
  rw [tk.2.2.1, hj]
  refine zW_if (fun y => h1 (SS_D S _ _ (SS_tk S).1 hk y)) (fun y => h0 (fun q => y (by rw [q])))
theorem zW_plc {k : Int → ZR YS} (S : SS C B X t Γ H σ η M g h) (hk : zW (k ((pc σ).2.1 : Int)) Q) : zW (ygR 1804 (some (X 8)) H fun v => ygI 6601 v H k) Q := by
  obtain ⟨a, e, tk⟩ := SS_c S
  refine zW_gR (SS_8 S) rfl ?_
  rw [e]
  refine zW_gI tk.2.1 rfl ?_
  rw [tk.2.2.2.1]
  exact hk
theorem zW_val {k : Int → ZR YS} (S : SS C B X t Γ H σ η M g h) (hk : zW (k (pc σ).2.2.2) Q) : zW (ygR 1804 (some (X 8)) H fun v => ygI 6603 v H k) Q := by
  obtain ⟨a, e, tk⟩ := SS_c S
  refine zW_gR (SS_8 S) rfl ?_
  rw [e]
  refine zW_gI tk.2.1 rfl ?_
  rw [tk.2.2.2.2.2]
  exact hk
/-- its text is live from now on -/
theorem zW_txt {k : Option Nat → ZR YS} (S : SS C B X t Γ H σ η M g h) (hk : ∀ s, StrY B H s (pc σ).2.2.1 → SS C B X t Γ H σ η ((oS (pc σ).2.2.1, some s) :: M) g h → zW (k (some s)) Q) : zW (ygR 1804 (some (X 8)) H fun v => ygR 6602 v H k) Q := by
  obtain ⟨a, e, tk⟩ := SS_c S
  obtain ⟨s, q1, q2⟩ := tk.2.2.2.2.1
  refine zW_gR (SS_8 S) rfl ?_
  rw [e]
  refine zW_gR tk.2.1 rfl ?_
  rw [q1]
  exact hk s q2 (SS_im (Or.inl rfl) ⟨q2.1, q2⟩ S)
/-- the token itself is live -/
theorem SS_tok (S : SS C B X t Γ H σ η M g h) : ∃ a, yR H 1804 (X 8) = some a ∧ SS C B X t Γ H σ η ((oT (pc σ).1 (pc σ).2.2.2 (pc σ).2.2.1, some a) :: M) g h := by
  obtain ⟨a, e, tk⟩ := SS_c S
  refine ⟨a, e, SS_im (Or.inr (Or.inr (Or.inl rfl))) ⟨tk.1, tk.2.1, ?_, tk.2.2.2.2.2, (fun q w => by cases w), tk.2.2.2.2.1⟩ S⟩
  exact tk.2.2.1
theorem sep_get : ∀ {L : List (SF × Option Nat)} {F : Nat → Prop} (i : Nat) {q : SF × Option Nat}, L[i]? = some q → sep F L → ∃ G : Nat → Prop, (∀ x, G x → F x) ∧ q.1 G q.2 := by
  intro L F i q hq h
  obtain ⟨G, F1, h1, -, -, h4, -⟩ := sep_up i q hq h
  exact ⟨G, h1, h4⟩
/-- a list of what never changes -/
theorem YO_list {p : List (List Int)} {l : List Gt} {G : Nat → Prop} {x : Nat} (hY : YO C B H (gn 104 p l) G (some x)) : ∃ e cap xs, AlY H x e cap xs ∧ (p = [] ∨ p = [[(cap : Int)]]) ∧ xs.length = l.length ∧ ∀ (k : Nat) (θ : Gt), l[k]? = some θ → ∃ (w : Option Nat) (G' : Nat → Prop), (∀ y, G' y → G y) ∧ xs[k]? = some w ∧ YO C B H θ G' w := by
  rw [YO_gn] at hY
  unfold hoA at hY
  rw [if_neg (by decide), if_neg (by decide), if_pos rfl] at hY
  obtain ⟨a, e, cap, xs, ha, h1, h2, h3, h4, h5, h6⟩ := hY
  cases ha
  rw [List.length_map] at h5
  refine ⟨e, cap, xs, h2, h4, h5, fun k θ hk => ?_⟩
  have hl : k < l.length := (List.getElem?_eq_some_iff.mp hk).1
  have hw : xs[k]? = some (xs[k]'(by omega)) := List.getElem?_eq_getElem _
  obtain ⟨G', q1, q2⟩ := sep_get k (q := (YO C B H θ, xs[k]'(by omega))) (by rw [List.getElem?_zip_eq_some]; exact ⟨by rw [List.getElem?_map, List.getElem?_map, hk]; rfl, hw⟩) h6
  exact ⟨_, G', fun y q => (q1 y q).1, hw, q2⟩
theorem YO_im {k : Nat} {p : List (List Int)} {G : Nat → Prop} {w : Option Nat} (hk : k = 101 ∨ k = 102 ∨ k = 103 ∨ k = 105 ∨ k = 106) (h : YO C B H (gn k p []) G w) : ∃ s, w = some s ∧ ImY C B H k p s := by
  rw [YO_gn] at h
  unfold hoA at h
  rw [if_neg (by omega), if_neg (by omega), if_neg (by omega), if_neg (by omega), if_neg (by omega), if_pos (by omega)] at h
  exact h
theorem y_strength (hD : KD C) (hC : CW C) (h0 : PsB C B X t H σ η) (h : TokY C B H a tk) (hk : tk.1 ≤ 6 ∧ tk.2.2.1.length ≤ 200) : ∃ w, YL C (d + 5) 110 [zr (X 8), zr a] H = some (some (some (.inr (.inr w))), H) ∧ ((w = none ∧ pSt (pF σ) tk = none) ∨ ∃ s q, w = some s ∧ pSt (pF σ) tk = some q ∧ ImY C B H 106 [[q.1, q.2], tk.2.2.1] s) := by
  obtain ⟨sx, t5, t6⟩ := h.2.2.2.2.1
  have k8 := h0.1.2.2.1.2.1
  have r9 := h0.1.2.2.1.2.2.2.2.1
  obtain ⟨O2, o1, o2⟩ := h0.1.2.2.2.2.2.2.2
  obtain ⟨G, F1, -, -, -, o3, -⟩ := o2
  obtain ⟨e, cap, xs, A, hp, hl, hx⟩ := YO_list (C := C) (B := B) (H := H) (p := [[(es η : Int)]]) (l := stT (pF σ)) o3
  have hcap : cap = es η := by
    rcases hp with q | q
    · cases q
    · have := (List.cons.inj (List.cons.inj q).1).1
      omega
  have hl2 : xs.length = (pF σ).length := by rw [hl]; unfold stT; rw [List.length_map, List.length_reverse]
  have hes := h0.1.2.2.2.2.2.2.1.1
  have hfn := hes.2
  have hbig := A.2.2.2.2.2.2.2.2.1
  have find : ∀ m : Nat, m ≤ (pF σ).length → tk.1 = 1 → ∃ w, YL C (d + 5) 566 [zr (X 8), zr a, .inl ((m : Int) - 1)] H = some (some (some (.inr (.inr w))), H) ∧ ((w = none ∧ pFx ((pF σ).drop ((pF σ).length - m)) tk.2.2.1 = none) ∨ ∃ s q, w = some s ∧ pFx ((pF σ).drop ((pF σ).length - m)) tk.2.2.1 = some q ∧ ImY C B H 106 [[q.1, q.2], tk.2.2.1] s) := by
    intro m
    induction m with
    | zero =>
      intro _ _
      refine ⟨none, zW_get (yl_Parser_strength_p22 ?_), Or.inl ⟨rfl, ?_⟩⟩
      · unfold yb_Parser_strength_p22
        exact zW_t (by omega) (zW_rQ ⟨rfl, rfl⟩)
      · rw [Nat.sub_zero, List.drop_length]; rfl
    | succ m ih =>
      intro hm h1
      obtain ⟨w, e1, e2⟩ := ih (by omega) h1
      have hmF : (pF σ).length - (m + 1) < (pF σ).length := by omega
      have hd : (pF σ).drop ((pF σ).length - (m + 1)) = (pF σ)[(pF σ).length - (m + 1)] :: (pF σ).drop ((pF σ).length - m) := by
        rw [List.drop_eq_getElem_cons hmF, show (pF σ).length - (m + 1) + 1 = (pF σ).length - m by omega]
      generalize hf : (pF σ)[(pF σ).length - (m + 1)] = fx at hd
      have hst : (stT (pF σ))[m]? = some (oG fx.2.1 fx.2.2 fx.1) := by
        unfold stT
        rw [List.getElem?_map, List.getElem?_reverse (by omega), show (pF σ).length - 1 - m = (pF σ).length - (m + 1) by omega, List.getElem?_eq_getElem hmF, hf]; rfl
      obtain ⟨w0, G', -, x1, x2⟩ := hx m _ hst
      obtain ⟨s, rfl, i1, i2, i3, i4, y, i5, i6⟩ := YO_im (C := C) (B := B) (H := H) (by omega) x2
      have i6 : StrY B H y fx.1 := i6
      have i3 : yI H 2101 s = fx.2.1 := i3
      have i4 : yI H 2102 s = fx.2.2 := i4
      have hg : xs.getD m none = some s := by rw [List.getD_eq_getElem?_getD, x1]; rfl
      have hml : m < xs.length := by omega
      have get : ∀ {k : Option Nat → YS → ZR YS} {Q : Option (Option ZV) → YS → Prop}, zW (k (some s) H) Q → zW (zQ (ycv (YL C) (d + 5) [(5, 528)] (some (X 9)) [.inl (m : Int)] H) k) Q := by
        intro k Q hq
        rw [ycv_s A.2.1 ⟨by decide, rfl⟩]
        refine zW_Qe (y_get (d := d + 2) A hml) ?_
        rw [hg]; exact hq
      rw [hd]
      unfold pFx
      rw [List.find?_cons]
      by_cases hb : fx.1 = tk.2.2.1
      · rw [show decide (fx.1 = tk.2.2.1) = true from decide_eq_true hb]
        dsimp only
        by_cases neg : fx.2.1 < 0
        · refine ⟨none, zW_get (yl_Parser_strength_p22 ?_), Or.inl ⟨rfl, if_pos neg⟩⟩
          unfold yb_Parser_strength_p22
          rw [show ((m + 1 : Nat) : Int) - 1 = (m : Int) by omega]
          refine zW_f (by omega) (zW_gR k8 rfl ?_)
          rw [r9]
          refine get (zW_cc i2 (by decide) (zW_gR i2 rfl (zW_gR h.2.1 rfl ?_)))
          rw [i5, t5, ycv_str i6.2.1]
          refine zW_Ie (y_equals (d := d + 3) hC i6 t6 (by have := congrArg List.length hb; omega)) ?_
          rw [if_pos hb]
          refine zW_f (by decide) (zW_gR k8 rfl ?_)
          rw [r9]
          refine get (zW_cc i2 (by decide) (zW_gI i2 rfl ?_))
          rw [i3]
          exact zW_t neg (zW_rQ ⟨rfl, rfl⟩)
        · refine ⟨some s, zW_get (yl_Parser_strength_p22 ?_), Or.inr ⟨s, fx.2, rfl, if_neg neg, i1, i2, i3, i4, y, i5, by rw [← hb]; exact i6⟩⟩
          unfold yb_Parser_strength_p22
          rw [show ((m + 1 : Nat) : Int) - 1 = (m : Int) by omega]
          refine zW_f (by omega) (zW_gR k8 rfl ?_)
          rw [r9]
          refine get (zW_cc i2 (by decide) (zW_gR i2 rfl (zW_gR h.2.1 rfl ?_)))
          rw [i5, t5, ycv_str i6.2.1]
          refine zW_Ie (y_equals (d := d + 3) hC i6 t6 (by have := congrArg List.length hb; omega)) ?_
          rw [if_pos hb]
          refine zW_f (by decide) (zW_gR k8 rfl ?_)
          rw [r9]
          refine get (zW_cc i2 (by decide) (zW_gI i2 rfl ?_))
          rw [i3]
          refine zW_f neg (zW_gR k8 rfl ?_)
          rw [r9]
          exact get (zW_cc i2 (by decide) (zW_rQ ⟨rfl, rfl⟩))
      · rw [show decide (fx.1 = tk.2.2.1) = false from decide_eq_false hb]
        dsimp only
        refine ⟨w, zW_get (yl_Parser_strength_p22 ?_), e2⟩
        unfold yb_Parser_strength_p22
        rw [show ((m + 1 : Nat) : Int) - 1 = (m : Int) by omega]
        refine zW_f (by omega) (zW_gR k8 rfl ?_)
        rw [r9]
        refine get (zW_cc i2 (by decide) (zW_gR i2 rfl (zW_gR h.2.1 rfl ?_)))
        rw [i5, t5, ycv_str i6.2.1]
        refine zW_Ie (y_equals (d := d + 3) hC i6 t6 (by have := hfn fx (by rw [← hf]; exact List.getElem_mem _); omega)) ?_
        rw [if_neg hb]
        refine zW_t rfl (zW_G (by omega) (zW_let ?_))
        rw [show (m : Int) + (-1) = (m : Int) - 1 by omega]
        exact zW_eq e1 ⟨rfl, rfl⟩
  unfold pSt
  by_cases h1 : tk.1 = 1
  · rw [if_pos h1]
    obtain ⟨w, e1, e2⟩ := find (pF σ).length (Nat.le_refl _) h1
    rw [Nat.sub_self, List.drop_zero] at e2
    refine ⟨w, zW_get (yl_Parser_strength ?_), e2⟩
    unfold yb_Parser_strength
    refine zW_gR h.2.1 rfl (zW_svR ?_)
    rw [h.2.2.1]
    refine zW_t (by rw [h1]; rfl) (zW_gR k8 rfl ?_)
    rw [r9, ycv_s A.2.1 ⟨by decide, rfl⟩]
    refine zW_Ie (y_size A) (zW_G (by omega) (zW_let ?_))
    rw [hl2]
    exact zW_eq e1 ⟨rfl, rfl⟩
  · rw [if_neg h1]
    refine ⟨none, zW_get (yl_Parser_strength ?_), Or.inl ⟨rfl, rfl⟩⟩
    unfold yb_Parser_strength
    refine zW_gR h.2.1 rfl (zW_svR ?_)
    rw [h.2.2.1]
    exact zW_f (fun q => h1 (hD tk.1 1 hk.1 (by decide) q)) (zW_rQ ⟨rfl, rfl⟩)
end YTst
