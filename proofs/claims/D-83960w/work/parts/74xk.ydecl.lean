set_option maxRecDepth 100000
/-! THE HOUSE'S PARSER: what declarations need -/
theorem VR_veN {o a : List Gt} : ∀ {V V1 : List Ve}, VR o a V V1 → veN V1 ≤ veN V + o.length + a.length
  | [], [], _ => Nat.zero_le _
  | [], _ :: _, h => h.elim
  | _ :: _, [], h => h.elim
  | v :: V, v1 :: V1, h => by
    rw [veN_c, veN_c, h.2.2.1, h.2.2.2.1, h.2.2.2.2.2, List.length_append, List.length_append]
    omega
theorem gmn_50 {b : Bool} {p : List (List Int)} {s : List Gt} : gmn b (gn 50 p s) = [oM (hq p 0) (hnm p)] := by
  unfold gmn
  rw [gfold_gn]; rfl
theorem map_gmn {b : Bool} {s : List Gt} : ((s.map fun x => (x, gmn b x)).map fun q => q.2) = s.map (gmn b) := by rw [List.map_map]; rfl
theorem gmn_80 {b : Bool} {p : List (List Int)} {s : List Gt} : gmn b (gn 80 p s) = (s.map (gmn b)).getD 0 [] ++ (s.map (gmn b)).getD 2 [] ++ (s.map (gmn b)).getD 1 [] := by
  rw [← map_gmn]
  conv => lhs; unfold gmn
  rw [gfold_gn]; rfl
theorem gmn_70 {b : Bool} {k : Nat} {p : List (List Int)} {s : List Gt} (hk : k = 70 ∨ k = 71 ∨ k = 72) : gmn b (gn k p s) = if b then gms b s else [] := by
  unfold gms
  rw [← map_gmn]
  rcases hk with rfl | rfl | rfl
  · conv => lhs; unfold gmn
    rw [gfold_gn]; rfl
  · conv => lhs; unfold gmn
    rw [gfold_gn]; rfl
  · conv => lhs; unfold gmn
    rw [gfold_gn]; rfl
theorem gmn_73 {b : Bool} {k : Nat} {p : List (List Int)} {s : List Gt} (hk : k = 73 ∨ k = 74 ∨ k = 75) : gmn b (gn k p s) = [] := by
  rcases hk with rfl | rfl | rfl <;> (unfold gmn; rw [gfold_gn]; rfl)
/-- VARIABLES told are mentions -/
theorem gmn_oM (b : Bool) : ∀ τ : Gt, ∀ x ∈ gmn b τ, ∃ p nm, x = oM p nm := by
  refine gt_ind (fun p x hx => by cases hx) (fun k l r ih x hx => ?_)
  rw [gmn_br] at hx
  have key : ∀ s : List Gt, (∀ y ∈ s, y ∈ gsp r) → x ∈ gms b s → ∃ p nm, x = oM p nm := by
    intro s hs hx
    unfold gms at hx
    obtain ⟨l, h1, h2⟩ := List.mem_flatten.mp hx
    obtain ⟨y, h3, rfl⟩ := List.mem_map.mp h1
    exact ih y (hs y h3) x h2
  have at' : ∀ i, x ∈ ((gsp r).map (gmn b)).getD i [] → ∃ p nm, x = oM p nm := by
    intro i hi
    rw [List.getD_eq_getElem?_getD, List.getElem?_map] at hi
    cases h : (gsp r)[i]? with
    | none => rw [h] at hi; cases hi
    | some y =>
      rw [h] at hi
      exact ih y (List.mem_of_getElem? h) x hi
  by_cases h50 : k = 50
  · subst h50
    rw [gmn_50] at hx
    exact ⟨_, _, List.mem_singleton.mp hx⟩
  by_cases h37 : k = 37
  · subst h37
    rw [gmn_37] at hx
    exact key _ (fun y q => List.mem_reverse.mp q) hx
  by_cases h80 : k = 80
  · subst h80
    rw [gmn_80] at hx
    rcases List.mem_append.mp hx with hx | hx
    · rcases List.mem_append.mp hx with hx | hx
      · exact at' 0 hx
      · exact at' 2 hx
    · exact at' 1 hx
  by_cases h70 : k = 70 ∨ k = 71 ∨ k = 72
  · rw [gmn_70 h70] at hx
    split at hx
    · exact key _ (fun _ q => q) hx
    · cases hx
  by_cases h73 : k = 73 ∨ k = 74 ∨ k = 75
  · rw [gmn_73 h73] at hx
    cases hx
  rw [gmn_tr (by simp only [List.mem_cons, List.not_mem_nil, or_false, not_or]; omega)] at hx
  exact key _ (fun _ q => q) hx
theorem gms_oM {b : Bool} {s : List Gt} : ∀ x ∈ gms b s, ∃ p nm, x = oM p nm := by
  intro x hx
  unfold gms at hx
  obtain ⟨l, h1, h2⟩ := List.mem_flatten.mp hx
  obtain ⟨y, h3, rfl⟩ := List.mem_map.mp h1
  exact gmn_oM b y x h2
section YDcl
variable {C : YC} {B P O : Nat → Prop} {X : Nat → Nat} {t : List Int} {Γ : Gm} {H H' : YS} {σ σ1 : Ps} {η η' η1 : Et} {M : List (Gt × Option Nat)} {g h g' h' : Int} {a e c s d dp cap N : Nat} {F F' : List (List Int × Int × Int)} {Q : Option (Option ZV) → YS → Prop} {r : (Int × Nat) ⊕ (Gt × Ps)} {l : List Gt} {θ : Gt} {w : Option Nat} {f : Ps → PR} {v : Ve} {V : List Ve} {R : PX}
theorem SS_et0 (S : SS C B X t Γ H σ η M g h) (hu : Γ.2.2.2.2 = 0) : et η = false := by
  have := S.2.2.2.2.2.2.2.2
  cases het : et η with
  | false => rfl
  | true => have := this.mp het; omega
/-- a part of the val or fun under way -/
theorem zW_gV {k : Option Nat → ZR YS} {f b : Nat} {s1 s2 : List Gt} (hV : eV η = v :: V) (hf : yokF f v.2.1.1 = true) (hs : v.2.1.2.2 = s1 ++ oF f (oA b) :: s2) (S : SS C B X t Γ H σ η M g h) (hk : zW (k (some b)) Q) : zW (ygR f (some v.1) H k) Q := by
  obtain ⟨O2, o1, o2⟩ := S.1.1.2.2.2.2.2.2.2
  have hkd := (S.1.1.2.2.2.2.2.2.1.2.2 v (by rw [hV]; exact List.mem_cons_self)).1
  have hi : (ovM X (pF σ) η)[2]? = some (oW v.2.2.2.2.2 (veT v), some v.1) := by
    unfold ovM
    rw [hV]; rfl
  obtain ⟨G, q1, q2⟩ := sep_get 2 (L := (ovM X (pF σ) η).map fun q => (YO C B H q.1, q.2)) (by rw [List.getElem?_map, hi]; rfl) o2
  obtain ⟨G', w1, w2, w3⟩ := YO_oW.mp q2
  unfold veT oO at w3
  rw [YO_gn] at w3
  unfold hoA at w3
  rw [if_pos (by omega)] at w3
  obtain ⟨x, hx, -, y1, y2, -, y3⟩ := w3
  cases hx
  rw [hs, List.map_map, ← List.cons_append, ← List.cons_append, List.map_append] at y3
  obtain ⟨A1, A2, r1, r2, r3, r4, E1, E2, e1, e2, e3, e4, e5⟩ := sep_app.mp y3
  have e4 : YO C B H (oF f (oA b)) E1 (yR H (200 + f - 200) v.1) := e4
  rw [Nat.add_sub_cancel_left] at e4
  have hb := YO_oA.mp (YO_oF.mp e4)
  refine zW_gR y2 hf ?_
  rw [hb]
  exact hk
/-- a number of the val or fun under way is written -/
theorem zW_pV {k : YS → ZR YS} {f ty : Nat} {x : Int} {p' : List Int} (hV : eV η = v :: V) (hf : v.2.1.1 < 72 ∧ yokF f v.2.1.1 = true) (hy : yfit ty x = true) (hp : ∀ H, allI H v.1 v.2.1.2.1 → allI (yput H f v.1 x) v.1 p') (S : SS C B X t Γ H σ η M g h) (hk : ∀ H1 O', SS C B X t Γ H1 σ (O', η.2.1, et η, (v.1, (v.2.1.1, p', v.2.1.2.2), v.2.2) :: V) M g h → zW (k H1) Q) : zW (ypI f ty (some v.1) x H k) Q := by
  have g7 := S.1.1.2.2.2.2.2.2.1
  have gv := g7.2.2 v (by rw [hV]; exact List.mem_cons_self)
  obtain ⟨t1, t2, -, -⟩ := SS_top S hV
  obtain ⟨O2, o1, o2⟩ := S.1.1.2.2.2.2.2.2.2
  have hO := S.1.1.1.1
  have hi : (ovM X (pF σ) η)[2]? = some (oW v.2.2.2.2.2 (veT v), some v.1) := by
    unfold ovM
    rw [hV]; rfl
  have hil : 2 < (ovM X (pF σ) η).length := (List.getElem?_eq_some_iff.mp hi).1
  have up := sep_up 2 (L := (ovM X (pF σ) η).map fun q => (YO C B H q.1, q.2)) _ (by rw [List.getElem?_map, hi]; rfl) o2
  obtain ⟨G, F1, p1, p2, p3, p4, p5⟩ := up
  obtain ⟨G', w1, w2, w3⟩ := YO_oW.mp p4
  have w3 : YO C B H (gn v.2.1.1 [v.2.1.2.1] (oF 7200 (oA v.2.2.2.2.1.1) :: oF 7201 (oA v.2.2.2.2.1.2) :: v.2.1.2.2)) G' (some v.1) := w3
  rw [YO_gn] at w3
  unfold hoA at w3
  rw [if_pos (by omega)] at w3
  obtain ⟨x', hx', z1, z2, z3, z4, z5⟩ := w3
  cases hx'
  rw [List.map_map] at z5
  have ex : yEx (fun y => y = v.1) 0 0 H (yput H f v.1 x) := yEx_put yEx_refl (fun _ => rfl)
  have hkd : v.2.1.1 < 100 ∧ v.2.1.1 ≠ 21 ∧ v.2.1.1 ≠ 22 ∧ v.2.1.1 ≠ 26 ∧ v.2.1.1 ≠ 27 ∧ v.2.1.1 ≠ 7 := by omega
  have im := Im_1 (B := B) z3 hkd
  have nv : ∀ y, y = v.1 → O2 y := fun y q => by rw [q]; exact p1 _ (w1 _ z1)
  refine zW_pI z3 hf hy (hk _ (eO η) (SS_o (O2 := O2) (F' := pF σ) (η' := (eO η, η.2.1, et η, (v.1, (v.2.1.1, p', v.2.1.2.2), v.2.2) :: V)) S ex (fun y q _ => ⟨(o1 y (nv y q)).2.1, by rw [q, z3]; omega⟩) (fun y q w => S.2.2.2.1 y q (o1 y (nv y w)).1) (fun y q _ => q) (fun y q => hO y q) S.2.2.2.1 (Lv_ex S.2.1 ex im (fun y _ q => (o1 y (nv y q)).1) (fun _ _ q => q)) rfl rfl ⟨g7.1, g7.2.1, fun u hu => ?_⟩ ?_ ?_ S.1.2.2.2.2.2.2.2 (fun y q => o1 y q) ?_ ?_ ?_))
  · rcases List.mem_cons.mp hu with rfl | hu
    · exact gv
    · exact g7.2.2 u (by rw [hV]; exact List.mem_cons_of_mem _ hu)
  · have := S.2.2.2.2.2.2.1
    rw [hV] at this
    exact this
  · have := SS_vl S
    rw [hV] at this
    exact this
  · have e1 : ovM X (pF σ) ((eO η, η.2.1, et η, (v.1, (v.2.1.1, p', v.2.1.2.2), v.2.2) :: V) : Et) = (ovM X (pF σ) η).set 2 (oW v.2.2.2.2.2 (gn v.2.1.1 [p'] (oF 7200 (oA v.2.2.2.2.1.1) :: oF 7201 (oA v.2.2.2.2.1.2) :: v.2.1.2.2)), some v.1) := by
      unfold ovM
      rw [hV]
      show _ :: (oC (ev η) (List.map _ (List.reverse _)), _) :: _ = _
      rw [List.reverse_cons, List.map_append]
      show _ = ((_ :: (oC (ev η) (List.map _ (List.reverse _)), _) :: _ : List (Gt × Option Nat)).set 2 _)
      rw [List.reverse_cons, List.map_append]; rfl
    rw [e1, List.map_set]
    refine sep_dn 2 (by rw [List.length_map]; exact hil) ?_
    rw [eraseIdx_map'] at p5 ⊢
    refine ⟨G, F1, p1, p2, p3, YO_oW.mpr ⟨G', w1, w2, ?_⟩, sep_ex ex im _ F1 (fun y q w => p3 v.1 (w1 _ z1) (w ▸ q)) p5⟩
    rw [YO_gn]
    unfold hoA
    rw [if_pos (by omega)]
    refine ⟨v.1, rfl, z1, z2, z3, hp H z4, ?_⟩
    rw [List.map_map]
    exact sep_flds ex im _ _ (fun y q => q.2) (fun _ _ => rfl) z5
  · show (0 : Int) + ccV (_ :: V) + g ≤ ccV (eV η) + g
    rw [hV, ccV_c, ccV_c]
    show (0 : Int) + ((V.length * v.2.2.1.2.length + ccV V : Nat) : Int) + g ≤ _
    omega
  · show (0 : Int) + crV (_ :: V) + 4 * ((es η : Int) + ev η) + h ≤ crV (eV η) + 4 * ((es η : Int) + ev η) + h
    rw [hV, crV_c, crV_c]
    show (0 : Int) + ((80 + 8 * (v.2.2.1.1.length : Int) + 8 * (v.2.2.1.2.length : Int) - 4 * (v.2.2.2.1.1 : Int) - 4 * (v.2.2.2.1.2 : Int)) + 8 * ((V.length * v.2.2.1.2.length : Nat) : Int) + crV V) + _ + _ ≤ _
    omega
/-- a type that is told -/
theorem zW_toldTy {kk : Option Nat → YS → ZR YS} {fK : Gt → Ps → PR} (h30 : YCf C B X t (R 30 [] []) 126 4 ho okTy) (hd : dep t σ + 6 ≤ d) (S : SS C B X t Γ H σ η M g h) (hu : Γ.2.2.2.2 = 0) (hg : g ≤ 3000) (hh : h ≤ 3000) (he : pB (R 30 [] [] σ) fK = some r) (her : ∀ e p H', r = .inl (e, p) → Th C B X t Γ H' e p → Q none H')
    (hk : ∀ τ σ1 H1 η1 ro, SS C B X t Γ H1 σ1 η1 ((ho τ, ro) :: M) (g - 10) (h - 60) → okTy σ τ → Qx t 0 1 σ σ1 → Er η η1 [] → fK τ σ1 = some r → zW (kk ro H1) Q) : zW (zQ (ycv (YL C) d [(6, 162)] (some (X 8)) [] H) kk) Q := by
  obtain ⟨d, rfl⟩ : ∃ e, d = e + 1 := ⟨d - 1, by omega⟩
  have e0 := SS_et0 S hu
  have hv0 := S.2.2.2.2.2.2.1
  rw [ycv_s (SS_8 S) ⟨by decide, rfl⟩]
  refine zW_Q (P := fun ro H1 => ∃ τ σ1 η1, SS C B X t Γ H1 σ1 η1 ((ho τ, ro) :: M) (g - 10) (h - 60) ∧ okTy σ τ ∧ Qx t 0 1 σ σ1 ∧ Er η η1 [] ∧ fK τ σ1 = some r) (T := fun H1 => Q none H1) (zW_c (yl_Parser_toldTy ?_)) (fun ro H1 ⟨τ, σ1, η1, w1, w2, w3, w4, w5⟩ => hk τ σ1 H1 η1 ro w1 w2 w3 w4 w5) (fun _ q => q)
  unfold yb_Parser_toldTy
  refine zW_told (b := true) (m := 5) ⟨by omega, by decide, by decide⟩ S (fun H1 O' S1 => ?_)
  refine zW_sub (Γ := Gu Γ 5) h30 (by omega) S1 (Or.inr rfl) hg hh he (fun e p H' w T => her e p H' w T) (fun τ σ2 H2 η2 ro S2 o2 q2 e2 he => zW_let ?_)
  have e2' : VR [] [] (eV η) (eV η2) := e2.2
  have hvn := VR_veN e2'
  have hq2 := q2.2.2.2
  refine zW_told (b := false) (m := 0) ⟨by show _ ≤ pq σ2 + 0; have : ([] : List Gt).length = 0 := rfl; omega, by decide, by decide⟩ S2 (fun H3 O3 S3 => zW_rQ ⟨τ, σ2, (O3, η2.2.1, false, eV η2), ?_, o2, q2, ⟨e0.symm, ?_⟩, he⟩)
  · refine SS_u (Γ := Γ) (n := 0) S3 ⟨by omega, by rw [hu]; exact ⟨(fun z => by cases z), (fun z => absurd z (by decide))⟩⟩ ?_
    show veN (eV η2) ≤ _
    have : ([] : List Gt).length = 0 := rfl
    omega
  · show VR (mt (et η) []) (mt (et η) []) (eV η) (eV η2)
    rw [mt_nil]
    exact e2'
end YDcl
