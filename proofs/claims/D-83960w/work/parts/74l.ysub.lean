set_option maxRecDepth 100000
/-! THE HOUSE'S PARSER: what a call of one of its parts gives -/
abbrev mt (b : Bool) (l : List Gt) : List Gt := if b then [] else l
/-- the latest val or fun has got VARIABLES -/
def VR (o a : List Gt) : List Ve → List Ve → Prop
  | [], [] => True
  | v :: V, v1 :: V1 => v1.1 = v.1 ∧ v1.2.1 = v.2.1 ∧ v1.2.2.1.1 = v.2.2.1.1 ++ o ∧ v1.2.2.1.2 = v.2.2.1.2 ++ a ∧ v1.2.2.2.2 = v.2.2.2.2 ∧ V1 = V
  | _, _ => False
def Er (η η1 : Et) (l : List Gt) : Prop := et η1 = et η ∧ VR (mt (et η) (gms false l)) (mt (et η) (gms true l)) (eV η) (eV η1)
def Qx (t : List Int) (k : Int) (m : Nat) (σ σ1 : Ps) : Prop := (pd σ1 : Int) = pd σ + k ∧ pF σ1 = pF σ ∧ pmu t σ1 + m ≤ pmu t σ ∧ pq σ ≤ pq σ1
def dep (t : List Int) (σ : Ps) : Nat := 40 * (41 - pd σ) + 2 * pmu t σ
/-- types may be told: nothing is kept then -/
def hU (mth : Nat) (Γ : Gm) : Prop := if (126 ≤ mth ∧ mth ≤ 131) ∨ (578 ≤ mth ∧ mth ≤ 580) then (Γ.2.2.2.2 = 0 ∨ Γ.2.2.2.2 = 5) else Γ.2.2.2.2 = 0
/-- a part of the grammar is what method mth does: objects by im, for which ok holds -/
def YCf (C : YC) (B : Nat → Prop) (X : Nat → Nat) (t : List Int) (fs : Ps → PR) (mth lev : Nat) (im : Gt → Gt) (ok : Ps → Gt → Prop) : Prop :=
  ∀ (Γ : Gm) (H : YS) (σ : Ps) (η : Et) (M : List (Gt × Option Nat)) (g h : Int) (d : Nat) (Q : Option (Option ZV) → YS → Prop) (r : (Int × Nat) ⊕ (Gt × Ps)), SS C B X t Γ H σ η M g h → hU mth Γ → g ≤ 3000 → h ≤ 3000 → dep t σ + lev ≤ d → fs σ = some r →
    (∀ e p H', r = .inl (e, p) → Th C B X t Γ H' e p → Q none H') →
    (∀ τ σ1 H1 η1 ro, r = .inr (τ, σ1) → SS C B X t Γ H1 σ1 η1 ((im τ, ro) :: M) (g - 10) (h - 60) → ok σ τ → Qx t 0 1 σ σ1 → Er η η1 [τ] → Q (some (some (.inr (.inr ro)))) H1) → zW (YL C d mth [zr (X 8)] H) Q
section YSub
variable {C : YC} {B P O : Nat → Prop} {X : Nat → Nat} {t : List Int} {Γ : Gm} {H H' : YS} {σ σ1 σ2 : Ps} {η η1 η2 : Et} {M : List (Gt × Option Nat)} {g h g' h' : Int} {a e c s d dp n m m' cap N tag mth lev : Nat} {k k' : Int} {Q : Option (Option ZV) → YS → Prop} {r : (Int × Nat) ⊕ (Gt × Ps)} {l l' : List Gt} {θ τ : Gt} {o o' : List Gt} {V V1 V2 : List Ve} {fs : Ps → PR} {im : Gt → Gt} {ok : Ps → Gt → Prop}
theorem VR_refl : ∀ V : List Ve, VR [] [] V V
  | [] => trivial
  | _ :: _ => ⟨rfl, rfl, (List.append_nil _).symm, (List.append_nil _).symm, rfl, rfl⟩
theorem VR_trans {o a o' a' : List Gt} : ∀ {V V1 V2 : List Ve}, VR o a V V1 → VR o' a' V1 V2 → VR (o ++ o') (a ++ a') V V2
  | [], [], [], _, _ => trivial
  | [], [], _ :: _, _, h => h.elim
  | [], _ :: _, _, h, _ => h.elim
  | _ :: _, [], _, h, _ => h.elim
  | _ :: _, _ :: _, [], _, h => h.elim
  | _ :: _, _ :: _, _ :: _, h, h' => ⟨h'.1.trans h.1, h'.2.1.trans h.2.1, by rw [h'.2.2.1, h.2.2.1, List.append_assoc], by rw [h'.2.2.2.1, h.2.2.2.1, List.append_assoc], h'.2.2.2.2.1.trans h.2.2.2.2.1, h'.2.2.2.2.2.trans h.2.2.2.2.2⟩
theorem VR_len {o a : List Gt} : ∀ {V V1 : List Ve}, VR o a V V1 → V1.length = V.length
  | [], [], _ => rfl
  | [], _ :: _, h => h.elim
  | _ :: _, [], h => h.elim
  | _ :: _, _ :: _, h => by rw [h.2.2.2.2.2]; rfl
theorem mt_nil {b : Bool} : mt b [] = [] := by cases b <;> rfl
theorem mt_app {b : Bool} {l l' : List Gt} : mt b (l ++ l') = mt b l ++ mt b l' := by cases b <;> rfl
theorem gms_app {b : Bool} {l l' : List Gt} : gms b (l ++ l') = gms b l ++ gms b l' := by unfold gms; rw [List.map_append, List.flatten_append]
theorem Er_1 (h : Et1 η η1) : Er η η1 [] := ⟨h.1, by
  show VR (mt _ []) (mt _ []) _ _
  rw [mt_nil, h.2]; exact VR_refl _⟩
theorem Er_t (h : Er η η1 l) (h' : Er η1 η2 l') : Er η η2 (l ++ l') := ⟨h'.1.trans h.1, by
  have q := VR_trans h.2 h'.2
  rw [h.1, ← mt_app, ← mt_app, ← gms_app, ← gms_app] at q
  exact q⟩
theorem Er_e (h : Er η η1 l) (h' : Et1 η1 η2) : Er η η2 l := by
  have := Er_t h (Er_1 h')
  rw [List.append_nil] at this
  exact this
theorem Er_o (h' : Et1 η η1) (h : Er η1 η2 l) : Er η η2 l := Er_t (Er_1 h') h
theorem gms_1 {b : Bool} : gms b [τ] = gmn b τ := by
  unfold gms
  show gmn b τ ++ [] = _
  rw [List.append_nil]
theorem gmn_tr {b : Bool} {k : Nat} {p : List (List Int)} {s : List Gt} (hk : k ∉ [50, 37, 80, 70, 71, 72, 73, 74, 75]) : gmn b (gn k p s) = gms b s := by
  unfold gmn
  rw [gfold_gn]
  simp only [List.mem_cons, List.not_mem_nil, or_false, not_or] at hk
  split
  · exact absurd rfl hk.1
  · exact absurd rfl hk.2.1
  · exact absurd rfl hk.2.2.1
  · exact absurd rfl hk.2.2.2.1
  · exact absurd rfl hk.2.2.2.2.1
  · exact absurd rfl hk.2.2.2.2.2.1
  · exact absurd rfl hk.2.2.2.2.2.2.1
  · exact absurd rfl hk.2.2.2.2.2.2.2.1
  · exact absurd rfl hk.2.2.2.2.2.2.2.2
  · rw [List.map_map]; rfl
theorem Er_n {k : Nat} {p : List (List Int)} {s : List Gt} (hk : k ∉ [50, 37, 80, 70, 71, 72, 73, 74, 75]) (h : Er η η1 s) : Er η η1 [gn k p s] := ⟨h.1, by rw [gms_1, gms_1, gmn_tr hk, gmn_tr hk]; exact h.2⟩
theorem Er_c (h1 : gms false l = gms false l') (h2 : gms true l = gms true l') (h : Er η η1 l) : Er η η1 l' := ⟨h.1, by rw [← h1, ← h2]; exact h.2⟩
theorem Qx_t (h : Qx t k m σ σ1) (h' : Qx t k' m' σ1 σ2) : Qx t (k + k') (m + m') σ σ2 := ⟨by rw [h'.1, h.1]; omega, h'.2.1.trans h.2.1, by have := h.2.2.1; have := h'.2.2.1; omega, Nat.le_trans h.2.2.2 h'.2.2.2⟩
theorem Qx_to (h : Qx t k m σ σ1) (hk : k = k') (hm : m' ≤ m) : Qx t k' m' σ σ1 := ⟨by rw [← hk]; exact h.1, h.2.1, by have := h.2.2.1; omega, h.2.2.2⟩
theorem Qx_0 : Qx t 0 0 σ σ := ⟨by omega, rfl, Nat.le_refl _, Nat.le_refl _⟩
theorem Qx_p (h : Pn t σ σ1) : Qx t 0 1 σ σ1 := ⟨by rw [h.2.1]; omega, h.2.2.1, h.2.2.2.1, h.2.2.2.2⟩
theorem Qx_o (h : Po t σ σ1 n) : Qx t ((n : Int) - pd σ) 1 σ σ1 := ⟨by rw [h.2.1]; omega, h.2.2.1, h.2.2.2.1, h.2.2.2.2⟩
theorem sep_perm {L L' : List (SF × Option Nat)} (hp : L.Perm L') : ∀ {F : Nat → Prop}, sep F L → sep F L' := by
  induction hp with
  | nil => exact fun h => h
  | cons x _ ih => exact fun ⟨G, F1, h1, h2, h3, h4, h5⟩ => ⟨G, F1, h1, h2, h3, h4, ih h5⟩
  | swap x y l => exact fun h => sep_swap h
  | trans _ _ ih1 ih2 => exact fun h => ih2 (ih1 h)
theorem pick_perm {α : Type} (d : α) (js : List Nat) (K : List α) (hp : js.Perm (List.range K.length)) : (js.map fun j => K.getD j d).Perm K := by
  have h1 := hp.map (fun j => K.getD j d)
  have h2 : (List.range K.length).map (fun j => K.getD j d) = K := by
    refine List.ext_getElem (by rw [List.length_map, List.length_range]) (fun i h1 h2 => ?_)
    rw [List.getElem_map, List.getElem_range, List.getD_eq_getElem?_getD, List.getElem?_eq_getElem h2]; rfl
  rw [h2] at h1
  exact h1
theorem SS_perm {M' : List (Gt × Option Nat)} (hp : M.Perm M') (S : SS C B X t Γ H σ η M g h) : SS C B X t Γ H σ η M' g h := by
  obtain ⟨F, h1, h2⟩ := S.2.1
  exact ⟨S.1, ⟨F, h1, sep_perm (hp.map _) h2⟩, S.2.2⟩
/-- the first n ones in another order -/
theorem SS_pk (n : Nat) (js : List Nat) (h1 : js.isPerm (List.range n) = true) (h2 : (M.take n).length = n) (S : SS C B X t Γ H σ η M g h) : SS C B X t Γ H σ η ((js.map fun j => (M.take n).getD j (oN, none)) ++ M.drop n) g h := by
  refine SS_perm ?_ S
  have h3 := pick_perm (oN, none) js (M.take n) (by rw [h2]; exact List.isPerm_iff.mp h1)
  have h4 := (h3.append_right (M.drop n)).symm
  rw [List.take_append_drop] at h4
  exact h4
/-- a part of the parser is called -/
theorem zW_sub {kk : Option Nat → YS → ZR YS} {fK : Gt → Ps → PR} (ih : YCf C B X t fs mth lev im ok) (hd : dep t σ + lev + 1 ≤ d) (S : SS C B X t Γ H σ η M g h) (hu : hU mth Γ) (hg : g ≤ 3000) (hh : h ≤ 3000) (he : pB (fs σ) fK = some r) (her : ∀ e p H', r = .inl (e, p) → Th C B X t Γ H' e p → Q none H')
    (hk : ∀ τ σ1 H1 η1 ro, SS C B X t Γ H1 σ1 η1 ((im τ, ro) :: M) (g - 10) (h - 60) → ok σ τ → Qx t 0 1 σ σ1 → Er η η1 [τ] → fK τ σ1 = some r → zW (kk ro H1) Q) : zW (zQ (ycv (YL C) d [(6, mth)] (some (X 8)) [] H) kk) Q := by
  obtain ⟨d, rfl⟩ : ∃ e, d = e + 1 := ⟨d - 1, by omega⟩
  rw [ycv_s (SS_8 S) ⟨by decide, rfl⟩]
  cases hR : fs σ with
  | none => rw [hR] at he; cases he
  | some q =>
    rw [hR] at he
    refine zW_Q (P := fun v H1 => ∃ τ σ1 η1, q = .inr (τ, σ1) ∧ SS C B X t Γ H1 σ1 η1 ((im τ, v) :: M) (g - 10) (h - 60) ∧ ok σ τ ∧ Qx t 0 1 σ σ1 ∧ Er η η1 [τ]) (T := fun H1 => ∃ e p, q = .inl (e, p) ∧ Th C B X t Γ H1 e p) (zW_c (ih Γ H σ η M g h d _ q S hu hg hh (by omega) hR (fun e p H1 w T => ⟨e, p, w, T⟩) (fun τ σ1 H1 η1 ro w S1 o1 q1 e1 => ⟨τ, σ1, η1, w, S1, o1, q1, e1⟩))) ?_ ?_
    · rintro v H1 ⟨τ, σ1, η1, rfl, S1, o1, q1, e1⟩
      exact hk τ σ1 H1 η1 v S1 o1 q1 e1 he
    · rintro H1 ⟨e, p, rfl, T⟩
      exact her e p H1 (Option.some.inj he).symm T
/-- reading of lists under way -/
theorem zW_size {kk : Int → YS → ZR YS} (hd : 1 ≤ d) (S : SS C B X t Γ H σ η ((oC cap l, some a) :: M) g h) (hk : zW (kk (l.length : Int) H) Q) : zW (zI (ycv (YL C) d [(5, 506)] (some a) [] H) kk) Q := by
  obtain ⟨d, rfl⟩ : ∃ e, d = e + 1 := ⟨d - 1, by omega⟩
  obtain ⟨a', e, xs, F, G, F1, ha, h1, g1, g2, g3, ga, A, ge, hl, q6, g5⟩ := Lv_lst S.2.1
  cases ha
  rw [ycv_s A.2.1 ⟨by decide, rfl⟩]
  refine zW_Ie (y_size A) ?_
  rw [hl]; exact hk
theorem zW_empty {kk : Int → YS → ZR YS} (hd : 1 ≤ d) (S : SS C B X t Γ H σ η ((oC cap l, some a) :: M) g h) (hk : zW (kk (if l = [] then 1 else 0) H) Q) : zW (zI (ycv (YL C) d [(5, 582)] (some a) [] H) kk) Q := by
  obtain ⟨d, rfl⟩ : ∃ e, d = e + 1 := ⟨d - 1, by omega⟩
  obtain ⟨a', e, xs, F, G, F1, ha, h1, g1, g2, g3, ga, A, ge, hl, q6, g5⟩ := Lv_lst S.2.1
  cases ha
  rw [ycv_s A.2.1 ⟨by decide, rfl⟩]
  refine zW_Ie (y_isEmpty A) ?_
  have : (xs = []) = (l = []) := by
    refine propext ⟨fun q => ?_, fun q => ?_⟩
    · rw [q] at hl; exact List.eq_nil_of_length_eq_zero hl.symm
    · rw [q] at hl; exact List.eq_nil_of_length_eq_zero hl
  simp only [this]
  exact hk
/-- the only one of a list comes out of it; the list is given up -/
theorem zW_only {kk : Option Nat → YS → ZR YS} (hd : 3 ≤ d) (S : SS C B X t Γ H σ η ((oC cap [θ], some a) :: M) g h) (hk : ∀ w, SS C B X t Γ H σ η ((θ, w) :: M) g h → (∀ kk2 : Option Nat → YS → ZR YS, zW (kk2 w H) Q → zW (zQ (ycv (YL C) d [(5, 528)] (some a) [.inl 0] H) kk2) Q) → zW (kk w H) Q) : zW (zQ (ycv (YL C) d [(5, 528)] (some a) [.inl 0] H) kk) Q := by
  obtain ⟨d, rfl⟩ : ∃ e, d = e + 3 := ⟨d - 3, by omega⟩
  obtain ⟨a', e, xs, F, G, F1, ha, h1, g1, g2, g3, ga, A, ge, hl, q6, g5⟩ := Lv_lst S.2.1
  cases ha
  cases xs with
  | nil => cases hl
  | cons w xs =>
    cases xs with
    | cons _ _ => cases hl
    | nil =>
      have get : ∀ kk2 : Option Nat → YS → ZR YS, zW (kk2 w H) Q → zW (zQ (ycv (YL C) (d + 3) [(5, 528)] (some a) [.inl 0] H) kk2) Q := by
        intro kk2 q
        rw [ycv_s A.2.1 ⟨by decide, rfl⟩]
        refine zW_Qe (y_get (d := d) (k := 0) A Nat.zero_lt_one) q
      refine get kk (hk w ?_ get)
      obtain ⟨G', F', p1, p2, p3, p4, -⟩ := q6
      exact ⟨S.1, ⟨F, h1, G', F1, fun x q => g1 x (p1 x q).1, g2, fun x q z => g3 x (p1 x q).1 z, p4, g5⟩, S.2.2⟩
/-- a VARIABLE's mention -/
theorem zW_mention {kk : Option Nat → YS → ZR YS} (hd : 2 ≤ d) (S : SS C B X t Γ H σ η M g h) (hk : ∀ H1 s, (ImY C B H1 105 [[((pc σ).2.1 : Int)], (pc σ).2.2.1] s) → SS C B X t Γ H1 σ η M (g + 1) (h + 2) → zW (kk (some s) H1) Q) : zW (ynew 27 2 H fun r1 h2 => ygR 1804 (some (X 8)) h2 fun v3 => ygR 6602 v3 h2 fun v4 => ygR 1804 (some (X 8)) h2 fun v5 => ygI 6601 v5 h2 fun v6 => zV (ycs (YL C) d 338 r1 [.inr (.inr v4), .inl v6] h2) fun h7 => kk r1 h7) Q := by
  obtain ⟨d, rfl⟩ : ∃ e, d = e + 2 := ⟨d - 2, by omega⟩
  have imF : Im B (fun _ => False) H := ⟨PN_F, fun _ q => q.elim⟩
  have x0 : yEx (fun _ => False) 1 2 H (ymk H 27 0 2) := yEx_mono (yEx_mk (c := 0) (s := 0) yEx_refl) (fun _ _ z => z) (by omega) (by omega)
  have S1 := SS_loc S x0 imF (fun _ _ q => q.elim) (Lv_ex S.2.1 x0 imF (fun _ _ q => q.elim) (fun _ _ q => q))
  have k0 : yK (ymk H 27 0 2) (ynx H) = 27 := by rw [ymk_K, if_pos rfl]
  have l0 : ynx H < ynx (ymk H 27 0 2) := by rw [ymk_x]; omega
  refine zW_new ?_
  rw [if_neg (by decide)]
  generalize hH0 : ymk H 27 0 2 = H0 at *
  generalize ha : ynx H = a at *
  refine zW_txt S1 (fun s hs _ => zW_plc S1 ?_)
  rw [ycs_s]
  have x1 : yEx (fun x => x = a) 0 0 H0 (yput (yputR H0 8100 a (some s)) 8101 a ((pc σ).2.1 : Int)) := yEx_put (yEx_putR yEx_refl (fun _ => rfl)) (fun _ => rfl)
  have x2 : yEx (fun _ => False) (1 + 0) (2 + 0) H (yput (yputR H0 8100 a (some s)) 8101 a ((pc σ).2.1 : Int)) := yEx_trans x0 x1 (fun x hx z => by omega)
  have S2 := SS_loc S x2 imF (fun _ _ q => q.elim) (Lv_ex S.2.1 x2 imF (fun _ _ q => q.elim) (fun _ _ q => q))
  have im1 : PN B (fun x => x = a) H0 := by
    rintro x rfl _
    omega
  refine zW_Ve (S := yput (yputR H0 8100 a (some s)) 8101 a ((pc σ).2.1 : Int)) (zW_get (yl_Mention_init ?_)) (hk _ a ⟨l0, k0, yput_at, s, yputR_at, StrY_ex hs x1 im1⟩ (SS_mono S2 (by omega) (by omega)))
  unfold yb_Mention_init
  exact zW_nn (zW_pR k0 (by decide) (zW_pI (by exact k0) (by decide) rfl (zW_rV ⟨rfl, rfl⟩)))
end YSub
