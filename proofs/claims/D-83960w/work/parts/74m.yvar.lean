set_option maxRecDepth 100000
/-! THE HOUSE'S PARSER: VARIABLES, labels, places, numbered labels -/
section YVar
variable {C : YC} {B P O : Nat → Prop} {X : Nat → Nat} {t : List Int} {Γ : Gm} {H H' : YS} {σ σ1 σ2 : Ps} {η η1 η2 : Et} {M : List (Gt × Option Nat)} {g h g' h' : Int} {a e c s d dp n m m' cap N : Nat} {Q : Option (Option ZV) → YS → Prop} {r : (Int × Nat) ⊕ (Gt × Ps)} {l l' : List Gt} {θ τ : Gt} {v : Ve} {V : List Ve} {f : Ps → PR}
theorem SS_val (S : SS C B X t Γ H σ η M g h) : ∃ e, AlY H (X 10) e (ev η) ((eV η).reverse.map fun v : Ve => some v.1) := by
  obtain ⟨O2, o1, o2⟩ := S.1.1.2.2.2.2.2.2.2
  obtain ⟨G, q1, q2⟩ := sep_get 1 (L := (ovM X (pF σ) η).map fun q => (YO C B H q.1, q.2)) rfl o2
  obtain ⟨e, cap, xs, A, hp, hl, hx⟩ := YO_list (C := C) (B := B) (H := H) (p := [[(ev η : Int)]]) (l := (eV η).reverse.map fun v : Ve => oA v.1) (show YO C B H (oC (ev η) ((eV η).reverse.map fun v : Ve => oA v.1)) G (some (X 10)) from q2)
  have hc : cap = ev η := by
    rcases hp with w | w
    · cases w
    · have := (List.cons.inj (List.cons.inj w).1).1
      omega
  refine ⟨e, ?_⟩
  have : xs = (eV η).reverse.map fun v : Ve => some v.1 := by
    refine List.ext_getElem? (fun k => ?_)
    by_cases hk : k < (eV η).reverse.length
    · have hk2 : ((eV η).reverse.map fun v : Ve => oA v.1)[k]? = some (oA ((eV η).reverse[k]).1) := by rw [List.getElem?_map, List.getElem?_eq_getElem hk]; rfl
      obtain ⟨w, G', -, w1, w2⟩ := hx k _ hk2
      unfold oA at w2
      rw [YO_gn] at w2
      unfold hoA at w2
      rw [if_neg (by decide), if_neg (by decide), if_neg (by decide), if_pos rfl] at w2
      rw [w1, List.getElem?_map, List.getElem?_eq_getElem hk, w2]
      show some (some (((eV η).reverse[k]).1 : Int).toNat) = some (some ((eV η).reverse[k]).1)
      rw [Int.toNat_natCast]
    · rw [List.getElem?_eq_none (by rw [hl, List.length_map]; omega), List.getElem?_eq_none (by rw [List.length_map]; omega)]
  rw [← this, ← hc]
  exact A
theorem SS_top (S : SS C B X t Γ H σ η M g h) (hV : eV η = v :: V) : v.1 < ynx H ∧ yK H v.1 = v.2.1.1 ∧ yR H 7200 v.1 = some v.2.2.2.2.1.1 ∧ yR H 7201 v.1 = some v.2.2.2.2.1.2 := by
  obtain ⟨O2, o1, o2⟩ := S.1.1.2.2.2.2.2.2.2
  have hk := (S.1.1.2.2.2.2.2.2.1.2.2 v (by rw [hV]; exact List.mem_cons_self)).1
  have hi : (ovM X (pF σ) η)[2]? = some (oW v.2.2.2.2.2 (veT v), some v.1) := by
    unfold ovM
    rw [hV]; rfl
  obtain ⟨G, q1, q2⟩ := sep_get 2 (L := (ovM X (pF σ) η).map fun q => (YO C B H q.1, q.2)) (by rw [List.getElem?_map, hi]; rfl) o2
  obtain ⟨G', w1, w2, w3⟩ := YO_oW.mp q2
  unfold veT oO at w3
  rw [YO_gn] at w3
  unfold hoA at w3
  rw [if_pos (by omega)] at w3
  obtain ⟨x, hx, -, y1, y2, -, y3⟩ := w3
  cases hx
  obtain ⟨G1, F1, -, -, -, z1, G2, F2, -, -, -, z2, -⟩ := y3
  refine ⟨y1, y2, ?_, ?_⟩
  · have z1 : YO C B H (oF 7200 (oA v.2.2.2.2.1.1)) G1 (yR H 7200 v.1) := z1
    unfold oF oA at z1
    rw [YO_gn] at z1
    unfold hoA at z1
    rw [if_neg (by decide), if_neg (by decide), if_neg (by decide), if_neg (by decide), if_neg (by decide), if_neg (by decide)] at z1
    have z1 : YO C B H (gn 107 [[(v.2.2.2.2.1.1 : Int)]] []) G1 (yR H 7200 v.1) := z1
    rw [YO_gn] at z1
    unfold hoA at z1
    rw [if_neg (by decide), if_neg (by decide), if_neg (by decide), if_pos rfl] at z1
    rw [z1]
    show some ((v.2.2.2.2.1.1 : Int)).toNat = _
    rw [Int.toNat_natCast]
  · have z2 : YO C B H (oF 7201 (oA v.2.2.2.2.1.2)) G2 (yR H 7201 v.1) := z2
    unfold oF oA at z2
    rw [YO_gn] at z2
    unfold hoA at z2
    rw [if_neg (by decide), if_neg (by decide), if_neg (by decide), if_neg (by decide), if_neg (by decide), if_neg (by decide)] at z2
    have z2 : YO C B H (gn 107 [[(v.2.2.2.2.1.2 : Int)]] []) G2 (yR H 7201 v.1) := z2
    rw [YO_gn] at z2
    unfold hoA at z2
    rw [if_neg (by decide), if_neg (by decide), if_neg (by decide), if_pos rfl] at z2
    rw [z2]
    show some ((v.2.2.2.2.1.2 : Int)).toNat = _
    rw [Int.toNat_natCast]
theorem zW_vempty {kk : Int → YS → ZR YS} (hd : 1 ≤ d) (S : SS C B X t Γ H σ η M g h) (h1 : eV η = [] → zW (kk 1 H) Q) (h0 : eV η ≠ [] → zW (kk 0 H) Q) : zW (ygR 1803 (some (X 8)) H fun v => zI (ycv (YL C) d [(5, 582)] v [] H) kk) Q := by
  obtain ⟨d, rfl⟩ : ∃ e, d = e + 1 := ⟨d - 1, by omega⟩
  obtain ⟨e, A⟩ := SS_val S
  refine zW_gR (SS_8 S) rfl ?_
  rw [S.1.1.2.2.1.2.2.2.2.2.1, ycv_s A.2.1 ⟨by decide, rfl⟩]
  refine zW_Ie (y_isEmpty A) ?_
  by_cases q : eV η = []
  · rw [if_pos (by rw [q]; rfl)]; exact h1 q
  · rw [if_neg (fun w => q (by simpa using w))]; exact h0 q
theorem zW_vtop {kk : Option Nat → YS → ZR YS} (hd : 3 ≤ d) (S : SS C B X t Γ H σ η M g h) (hV : eV η = v :: V) (hk : zW (kk (some v.1) H) Q) : zW (ygR 1803 (some (X 8)) H fun v13 => ygR 1803 (some (X 8)) H fun v14 => zI (ycv (YL C) d [(5, 506)] v14 [] H) fun v16 h15 => zG (inI (v16 - 1)) (zQ (ycv (YL C) d [(5, 528)] v13 [.inl (v16 - 1)] h15) fun v18 h17 => ycc 10 220 v18 h17 (kk v18 h17))) Q := by
  obtain ⟨d, rfl⟩ : ∃ e, d = e + 3 := ⟨d - 3, by omega⟩
  obtain ⟨e, A⟩ := SS_val S
  have tp := SS_top S hV
  have hkd := (S.1.1.2.2.2.2.2.2.1.2.2 v (by rw [hV]; exact List.mem_cons_self)).1
  have hvl := SS_vl S
  have hpd := S.1.1.2.2.2.1.2.1.1
  have hlen : ((eV η).reverse.map fun v : Ve => some v.1).length = V.length + 1 := by rw [List.length_map, List.length_reverse, hV]; rfl
  have hvl2 : V.length ≤ 40 := by rw [hV] at hvl; have : (v :: V).length = V.length + 1 := rfl; omega
  refine zW_gR (SS_8 S) rfl (zW_gR (SS_8 S) rfl ?_)
  rw [S.1.1.2.2.1.2.2.2.2.2.1, ycv_s A.2.1 ⟨by decide, rfl⟩]
  refine zW_Ie (y_size A) ?_
  rw [hlen, show ((V.length + 1 : Nat) : Int) - 1 = (V.length : Int) by omega]
  refine zW_G (by omega) ?_
  rw [ycv_s A.2.1 ⟨by decide, rfl⟩]
  refine zW_Qe (y_get (d := d) (k := V.length) A (by omega)) ?_
  have : ((eV η).reverse.map fun v : Ve => some v.1).getD V.length none = some v.1 := by
    rw [List.getD_eq_getElem?_getD, List.getElem?_map, hV, List.reverse_cons, List.getElem?_append_right (by rw [List.length_reverse]; exact Nat.le_refl _), List.length_reverse, Nat.sub_self]; rfl
  rw [this]
  refine zW_cc tp.2.1 ?_ hk
  rcases hkd with w | w <;> rw [w] <;> decide +kernel
theorem SS_u (S : SS C B X t (Gu Γ n) H σ η M g h) (hn : Γ.2.2.2.2 ≤ 10 ∧ (et η = true ↔ 5 ≤ Γ.2.2.2.2)) (hv : veN (eV η) ≤ pq σ + Γ.2.2.2.2) : SS C B X t Γ H σ η M g h := ⟨S.1, S.2.1, S.2.2.1, S.2.2.2.1, S.2.2.2.2.1, S.2.2.2.2.2.1, hv, hn⟩
theorem SS_u' (S : SS C B X t Γ H σ η M g h) (hn : n ≤ 10 ∧ (et η = true ↔ 5 ≤ n)) (hv : veN (eV η) ≤ pq σ + n) : SS C B X t (Gu Γ n) H σ η M g h := ⟨S.1, S.2.1, S.2.2.1, S.2.2.2.1, S.2.2.2.2.1, S.2.2.2.2.2.1, hv, hn⟩
theorem pPass_q (he : pPass t σ = .inr σ1) : pq σ1 = pq σ + pw σ := by
  unfold pPass at he
  split at he
  · cases he; rfl
  · split at he
    · cases he
    · cases he; rfl
theorem SS_psF (S : SS C B X t Γ H (psF σ (pF σ)) η M g h) : SS C B X t Γ H σ η M g h := S
theorem crV_c : crV (v :: V) = (80 + 8 * v.2.2.1.1.length + 8 * v.2.2.1.2.length - 4 * v.2.2.2.1.1 - 4 * v.2.2.2.1.2 : Int) + 8 * ((V.length * v.2.2.1.2.length : Nat) : Int) + crV V := rfl
theorem ccV_c : ccV (v :: V) = V.length * v.2.2.1.2.length + ccV V := rfl
theorem veN_c : veN (v :: V) = v.2.2.1.1.length + v.2.2.1.2.length + veN V := rfl
theorem SS_nv (S : SS C B X t Γ H σ η M g h) (hV : eV η = v :: V) : v.2.2.2.2.2 ≤ ynx H := by
  have gv := S.1.1.2.2.2.2.2.2.1.2.2 v (by rw [hV]; exact List.mem_cons_self)
  obtain ⟨O2, o1, o2⟩ := S.1.1.2.2.2.2.2.2.2
  have hi : (ovM X (pF σ) η)[2]? = some (oW v.2.2.2.2.2 (veT v), some v.1) := by
    unfold ovM
    rw [hV]; rfl
  obtain ⟨G, q1, q2⟩ := sep_get 2 (L := (ovM X (pF σ) η).map fun q => (YO C B H q.1, q.2)) (by rw [List.getElem?_map, hi]; rfl) o2
  obtain ⟨G', w1, w2, w3⟩ := YO_oW.mp q2
  unfold veT oO at w3
  rw [YO_gn] at w3
  unfold hoA at w3
  rw [if_pos (by omega)] at w3
  obtain ⟨x, hx, y0, y1, -⟩ := w3
  have := w2 x y0
  omega
theorem YO_men {s : Nat} {p : Int} {b : List Int} (hs : ImY C B H 105 [[p], b] s) : ∀ H1' c s' (P : Nat → Prop), (∀ x, P x → x < ynx H → yK H x = 5 ∨ yK H x = 1005) → yEx P c s' H H1' → YO C B H1' (oM p b) (fun _ => False) (some s) := by
  intro H1' c s' P hP ex
  have im : Im B P H := by
    refine ⟨fun x w1 w2 => ?_, fun x w1 w2 => ?_⟩ <;> have := hP x w1 w2 <;> omega
  have := ImY_ex hs ex im
  unfold oM
  rw [YO_gn]
  unfold hoA
  rw [if_neg (by omega), if_neg (by omega), if_neg (by omega), if_neg (by omega), if_neg (by omega), if_pos (by omega)]
  exact ⟨s, rfl, this⟩
/-- a mention comes to the latest val or fun's own ones; to all of its -/
theorem zW_own {kk : Int → YS → ZR YS} {s : Nat} {p : Int} {b : List Int} (hd : 8 ≤ d) (S : SS C B X t Γ H σ η M g h) (hV : eV η = v :: V) (hs : ImY C B H 105 [[p], b] s) (hl : veN (eV η) + 1 ≤ pq σ + Γ.2.2.2.2) (hq : pq σ ≤ 100000) (hk : ∀ cap1 O' H1, SS C B X t Γ H1 σ (O', η.2.1, et η, (v.1, v.2.1, (v.2.2.1.1 ++ [oM p b], v.2.2.1.2), (cap1, v.2.2.2.1.2), v.2.2.2.2) :: V) M (g + 1) (h + 8) → zW (kk 1 H1) Q) : zW (zI (ycv (YL C) d [(5, 505)] (some v.2.2.2.2.1.1) [.inr (.inr (some s))] H) kk) Q := by
  have g7 := S.1.1.2.2.2.2.2.2.1
  have gv := g7.2.2 v (by rw [hV]; exact List.mem_cons_self)
  have gV : ∀ u ∈ V, _ := fun u hu => g7.2.2 u (by rw [hV]; exact List.mem_cons_of_mem _ hu)
  have vl := SS_vl S
  have hu := S.2.2.2.2.2.2.2
  rw [hV] at vl
  have hvn : veN (eV η) = v.2.2.1.1.length + v.2.2.1.2.length + veN V := by rw [hV]; exact veN_c
  have hw : ∀ x, some s = some x → x < ynx H ∧ yokE 1005 (yK H x) = true := by
    rintro x hx
    cases hx
    exact ⟨hs.1, by rw [hs.2.1]; exact yokE_72 27 (by decide)⟩
  have len1 : (v.2.2.1.1 ++ [oM p b]).length = v.2.2.1.1.length + 1 := by rw [List.length_append]; rfl
  refine zW_oadd (F' := pF σ) (θ := oM p b) (l := v.2.2.1.1) (cap := v.2.2.2.1.1) (g' := g + 1) (h' := h + 8) 3 v.2.2.2.2.2 true hd S.1.2.2.2.2.2.2.2 S (by omega) (by unfold ovM; rw [hV]; rfl) (SS_nv S hV) hw (YO_men hs) (fun cap1 O' => (O', η.2.1, et η, (v.1, v.2.1, (v.2.2.1.1 ++ [oM p b], v.2.2.1.2), (cap1, v.2.2.2.1.2), v.2.2.2.2) :: V)) (fun cap1 H2 c1 c2 => ⟨rfl, rfl, rfl, ?_⟩) (fun cap1 O' c1 c2 => ⟨⟨g7.1, g7.2.1, ?_⟩, ⟨?_, ?_⟩, ?_, ?_⟩) (fun cap1 O' H2 c1 S2 => hk cap1 O' H2 S2)
  · unfold ovM
    rw [hV]
    have e1 : (((v.1, v.2.1, (v.2.2.1.1 ++ [oM p b], v.2.2.1.2), (cap1, v.2.2.2.1.2), v.2.2.2.2) :: V : List Ve).reverse.map fun v : Ve => oA v.1) = ((v :: V).reverse.map fun v : Ve => oA v.1) := by
      rw [List.reverse_cons, List.reverse_cons, List.map_append, List.map_append]; rfl
    show _ :: (oC (ev η) _, _) :: _ = _
    rw [e1]; rfl
  · intro u hu
    rcases List.mem_cons.mp hu with rfl | hu
    · refine ⟨gv.1, ?_, gv.2.2⟩
      show cap1 ≤ 10 + 2 * (v.2.2.1.1 ++ [oM p b]).length
      omega
    · exact gV u hu
  · show veN (_ :: V) ≤ _
    rw [veN_c]
    show (v.2.2.1.1 ++ [oM p b]).length + v.2.2.1.2.length + veN V ≤ _
    omega
  · exact vl
  · show (1 : Int) + ccV (_ :: V) + g ≤ _
    rw [hV, ccV_c, ccV_c]
    show (1 : Int) + ((V.length * v.2.2.1.2.length + ccV V : Nat) : Int) + g ≤ _
    omega
  · show _ + crV (_ :: V) + _ + _ ≤ crV (eV η) + 4 * ((es η : Int) + ev η) + _
    rw [hV, crV_c, crV_c]
    show _ + ((80 + 8 * ((v.2.2.1.1 ++ [oM p b]).length : Int) + 8 * (v.2.2.1.2.length : Int) - 4 * (cap1 : Int) - 4 * (v.2.2.2.1.2 : Int)) + 8 * ((V.length * v.2.2.1.2.length : Nat) : Int) + crV V) + _ + _ ≤ _
    rw [len1]
    generalize V.length * v.2.2.1.2.length = z
    omega
theorem zW_all {kk : Int → YS → ZR YS} {s : Nat} {p : Int} {b : List Int} (hd : 8 ≤ d) (S : SS C B X t Γ H σ η M g h) (hV : eV η = v :: V) (hs : ImY C B H 105 [[p], b] s) (hl : veN (eV η) + 1 ≤ pq σ + Γ.2.2.2.2) (hq : pq σ ≤ 100000) (hk : ∀ cap1 O' H1, SS C B X t Γ H1 σ (O', η.2.1, et η, (v.1, v.2.1, (v.2.2.1.1, v.2.2.1.2 ++ [oM p b]), (v.2.2.2.1.1, cap1), v.2.2.2.2) :: V) M (g + 1 + V.length) (h + 8 + 8 * V.length) → zW (kk 1 H1) Q) : zW (zI (ycv (YL C) d [(5, 505)] (some v.2.2.2.2.1.2) [.inr (.inr (some s))] H) kk) Q := by
  have g7 := S.1.1.2.2.2.2.2.2.1
  have gv := g7.2.2 v (by rw [hV]; exact List.mem_cons_self)
  have gV : ∀ u ∈ V, _ := fun u hu => g7.2.2 u (by rw [hV]; exact List.mem_cons_of_mem _ hu)
  have vl := SS_vl S
  have hu := S.2.2.2.2.2.2.2
  rw [hV] at vl
  have hvn : veN (eV η) = v.2.2.1.1.length + v.2.2.1.2.length + veN V := by rw [hV]; exact veN_c
  have hw : ∀ x, some s = some x → x < ynx H ∧ yokE 1005 (yK H x) = true := by
    rintro x hx
    cases hx
    exact ⟨hs.1, by rw [hs.2.1]; exact yokE_72 27 (by decide)⟩
  have len1 : (v.2.2.1.2 ++ [oM p b]).length = v.2.2.1.2.length + 1 := by rw [List.length_append]; rfl
  refine zW_oadd (F' := pF σ) (θ := oM p b) (l := v.2.2.1.2) (cap := v.2.2.2.1.2) (g' := g + 1 + V.length) (h' := h + 8 + 8 * V.length) 4 v.2.2.2.2.2 true hd S.1.2.2.2.2.2.2.2 S (by omega) (by unfold ovM; rw [hV]; rfl) (SS_nv S hV) hw (YO_men hs) (fun cap1 O' => (O', η.2.1, et η, (v.1, v.2.1, (v.2.2.1.1, v.2.2.1.2 ++ [oM p b]), (v.2.2.2.1.1, cap1), v.2.2.2.2) :: V)) (fun cap1 H2 c1 c2 => ⟨rfl, rfl, rfl, ?_⟩) (fun cap1 O' c1 c2 => ⟨⟨g7.1, g7.2.1, ?_⟩, ⟨?_, ?_⟩, ?_, ?_⟩) (fun cap1 O' H2 c1 S2 => hk cap1 O' H2 S2)
  · unfold ovM
    rw [hV]
    have e1 : (((v.1, v.2.1, (v.2.2.1.1, v.2.2.1.2 ++ [oM p b]), (v.2.2.2.1.1, cap1), v.2.2.2.2) :: V : List Ve).reverse.map fun v : Ve => oA v.1) = ((v :: V).reverse.map fun v : Ve => oA v.1) := by
      rw [List.reverse_cons, List.reverse_cons, List.map_append, List.map_append]; rfl
    show _ :: (oC (ev η) _, _) :: _ = _
    rw [e1]; rfl
  · intro u hu
    rcases List.mem_cons.mp hu with rfl | hu
    · refine ⟨gv.1, gv.2.1, ?_⟩
      show cap1 ≤ 10 + 2 * (v.2.2.1.2 ++ [oM p b]).length
      omega
    · exact gV u hu
  · show veN (_ :: V) ≤ _
    rw [veN_c]
    show v.2.2.1.1.length + (v.2.2.1.2 ++ [oM p b]).length + veN V ≤ _
    omega
  · exact vl
  · show (1 : Int) + ccV (_ :: V) + g ≤ _
    rw [hV, ccV_c, ccV_c]
    show (1 : Int) + ((V.length * (v.2.2.1.2 ++ [oM p b]).length + ccV V : Nat) : Int) + g ≤ _
    rw [len1, Nat.mul_succ]
    generalize V.length * v.2.2.1.2.length = z
    omega
  · show _ + crV (_ :: V) + _ + _ ≤ crV (eV η) + 4 * ((es η : Int) + ev η) + _
    rw [hV, crV_c, crV_c]
    show _ + ((80 + 8 * (v.2.2.1.1.length : Int) + 8 * ((v.2.2.1.2 ++ [oM p b]).length : Int) - 4 * (v.2.2.2.1.1 : Int) - 4 * (cap1 : Int)) + 8 * ((V.length * (v.2.2.1.2 ++ [oM p b]).length : Nat) : Int) + crV V) + _ + _ ≤ _
    rw [len1, Nat.mul_succ]
    generalize V.length * v.2.2.1.2.length = z
    omega
/-- a VARIABLE -/
theorem zW_var {kk : Option Nat → YS → ZR YS} (hd : 16 ≤ d) (S : SS C B X t Γ H σ η M g h) (hv : (pc σ).1 = 2) (hu0 : Γ.2.2.2.2 = 0 ∨ Γ.2.2.2.2 = 5) (hg : g ≤ 3000) (hh : h ≤ 3000) (he : pT (pPass t σ) f = some r) (her : ∀ e p H', r = .inl (e, p) → Th C B X t Γ H' e p → Q none H') (hk : ∀ σ1 H1 η1 ro, SS C B X t Γ H1 σ1 η1 ((oO 28 [8400, ((pc σ).2.1 : Int)] [oF 8401 (oS (pc σ).2.2.1)], ro) :: M) (g - 30) (h - 200) → Pn t σ σ1 → Er η η1 [gn 50 [[((pc σ).2.1 : Int)], (pc σ).2.2.1] []] → f σ1 = some r → zW (kk ro H1) Q) : zW (zQ (ycv (YL C) d [(6, 130)] (some (X 8)) [] H) kk) Q := by
  obtain ⟨d, rfl⟩ : ∃ e, d = e + 1 := ⟨d - 1, by omega⟩
  rw [ycv_s (SS_8 S) ⟨by decide, rfl⟩]
  refine zW_Q (P := fun ro H1 => ∃ σ1 η1, SS C B X t Γ H1 σ1 η1 ((oO 28 [8400, ((pc σ).2.1 : Int)] [oF 8401 (oS (pc σ).2.2.1)], ro) :: M) (g - 30) (h - 200) ∧ Pn t σ σ1 ∧ Er η η1 [gn 50 [[((pc σ).2.1 : Int)], (pc σ).2.2.1] []] ∧ f σ1 = some r) (T := fun H1 => Q none H1) (zW_c (yl_Parser_variable ?_)) (fun ro H1 ⟨σ1, η1, S1, p, e1, e2⟩ => hk σ1 H1 η1 ro S1 p e1 e2) (fun _ q => q)
  unfold yb_Parser_variable
  have w3 : pw σ = 3 := by unfold pw; rw [if_pos hv]
  have vl := SS_vl S
  have vp := S.1.1.2.2.2.1.2.1.1
  have hu := S.2.2.2.2.2.2.2
  have mth : ∀ {g1 h1 : Int} {H1 : YS} {η1 : Et} {s : Nat}, g1 ≤ g + 50 → h1 ≤ h + 400 → SS C B X t (Gu Γ (Γ.2.2.2.2 + 2)) H1 σ η1 ((oM ((pc σ).2.1 : Int) (pc σ).2.2.1, some s) :: M) g1 h1 → Er η η1 [gn 50 [[((pc σ).2.1 : Int)], (pc σ).2.2.1] []] → zW (YL C d 583 [zr (X 8), zr s] H1) (oQ (fun ro H1 => ∃ σ1 η1, SS C B X t Γ H1 σ1 η1 ((oO 28 [8400, ((pc σ).2.1 : Int)] [oF 8401 (oS (pc σ).2.2.1)], ro) :: M) (g - 30) (h - 200) ∧ Pn t σ σ1 ∧ Er η η1 [gn 50 [[((pc σ).2.1 : Int)], (pc σ).2.2.1] []] ∧ f σ1 = some r) fun H1 => Q none H1) := by
    intro g1 h1 H1 η1 s hg1 hh1 S1 e1
    refine yl_Parser_variable_p77 ?_
    unfold yb_Parser_variable_p77
    obtain ⟨d, rfl⟩ : ∃ e, d = e + 1 := ⟨d - 1, by omega⟩
    rw [ycv_s (SS_8 S1) ⟨by decide, rfl⟩]
    refine zW_V (zW_c (y_pass' (by omega) S1 (by omega) (by omega) (by omega))) ?_ ?_
    · rintro H2 ⟨σ2, η2, e2, S2, p2, w2⟩
      have hq := pPass_q e2
      rw [e2] at he
      rw [w3] at S2
      have hvn : veN (eV η2) ≤ pq σ2 + Γ.2.2.2.2 := by
        have q1 : veN (eV η1) ≤ pq σ + (Γ.2.2.2.2 + 2) := S1.2.2.2.2.2.2.1
        rw [w2.2, hq, w3]; omega
      have S2 := SS_u S2 ⟨hu.1, by rw [w2.1, e1.1]; exact hu.2⟩ hvn
      have S3 := SS_new (kd := 28) (n := 2) (p := []) S2 (by decide) trivial
      refine zW_new ?_
      rw [if_neg (by decide)]
      generalize ymk H2 28 0 2 = H3 at S3 ⊢
      generalize ynx H2 = a at S3 ⊢
      obtain ⟨F, f1, G, F1, -, -, -, -, G2, F2, -, -, -, z2, -⟩ := S3.2.1
      have z2 : YO C B H3 (oM ((pc σ).2.1 : Int) (pc σ).2.2.1) G2 (some s) := z2
      obtain ⟨s', hs', z3, z4, z5, y, z6, z7⟩ := YO_im (k := 105) (by omega) z2
      cases hs'
      have S4 := SS_im (k := 101) (p := [(pc σ).2.2.1]) (x := y) (Or.inl rfl) ⟨z7.1, z7⟩ (SS_drop (SS_up 1 S3 rfl))
      have S5 := SS_up 1 S4 rfl
      refine zW_gR z4 rfl (zW_gI z4 rfl ?_)
      rw [z6, z5]
      refine m_VariableTy (by omega) S5 (fun H4 S6 => zW_rQ ⟨σ2, η2, SS_mono S6 (by omega) (by omega), p2, Er_e e1 w2, he⟩)
    · rintro H2 ⟨e, p, w, T⟩
      rw [w] at he
      exact her e p H2 (Option.some.inj he).symm T
  refine zW_mention (by omega) S (fun H1 s hs S1 => zW_let ?_)
  have hv0 := S.2.2.2.2.2.2.1
  have Sm := SS_im (k := 105) (Or.inr (Or.inr (Or.inr (Or.inl rfl)))) hs (SS_u' (n := Γ.2.2.2.2 + 2) S1 ⟨by omega, hu.2.trans (by omega)⟩ (by omega))
  have e50 : gmn false (gn 50 [[((pc σ).2.1 : Int)], (pc σ).2.2.1] []) = [oM ((pc σ).2.1 : Int) (pc σ).2.2.1] ∧ gmn true (gn 50 [[((pc σ).2.1 : Int)], (pc σ).2.2.1] []) = [oM ((pc σ).2.1 : Int) (pc σ).2.2.1] := by
    constructor <;> (unfold gmn; rw [gfold_gn]; rfl)
  refine zW_vempty (by omega) S1 (fun q => zW_f (by decide) (mth (by omega) (by omega) Sm ⟨rfl, ?_⟩)) (fun q => zW_t rfl ?_)
  · rw [gms_1, gms_1, e50.1, e50.2, q]; trivial
  refine zW_gI (SS_8 S1) rfl ?_
  rw [S1.1.1.2.2.2.1.2.2]
  cases het : et η with
  | true =>
    refine zW_f (by decide) (mth (by omega) (by omega) Sm ⟨rfl, ?_⟩)
    rw [het]
    exact VR_refl _
  | false =>
    refine zW_t rfl ?_
    cases hV : eV η with
    | nil => exact absurd hV q
    | cons v V =>
      have hu0 : Γ.2.2.2.2 = 0 := by
        rcases hu0 with z | z
        · exact z
        · have := hu.2.mpr (by omega)
          rw [het] at this
          cases this
      have tp := SS_top S1 hV
      have g7 := S1.1.1.2.2.2.2.2.2.1
      have hpq : pq σ ≤ 100000 := by
        have q2 := S1.1.2.2.1
        have q1 := S1.1.2.2.2.2.2.2
        have q3 := q2.2.2.2.1
        have q4 := q2.2.2.1.1
        omega
      have gv := g7.2.2 v (by rw [hV]; exact List.mem_cons_self)
      have vl' : V.length ≤ 40 := by rw [hV] at vl; have : (v :: V).length = V.length + 1 := rfl; omega
      have hvn : veN (eV η) = v.2.2.1.1.length + v.2.2.1.2.length + veN V := by rw [hV]; exact veN_c
      refine zW_vtop (by omega) S1 hV (zW_let (zW_gR tp.2.1 ?_ ?_))
      · rcases gv.1 with w | w <;> rw [w] <;> decide +kernel
      rw [tp.2.2.1]
      refine zW_own (by omega) Sm hV hs (by show _ ≤ pq σ + (Γ.2.2.2.2 + 2); omega) hpq (fun cap1 O' H2 S2 => ?_)
      have tp2 := SS_top S2 rfl
      have hs2 : ImY C B H2 105 [[((pc σ).2.1 : Int)], (pc σ).2.2.1] s := by
        obtain ⟨F, f1, G, F1, -, -, -, z2, -⟩ := S2.2.1
        have z2 : YO C B H2 (oM ((pc σ).2.1 : Int) (pc σ).2.2.1) G (some s) := z2
        obtain ⟨s', hs', z3⟩ := YO_im (k := 105) (by omega) z2
        cases hs'
        exact z3
      refine zW_gR tp2.2.1 ?_ ?_
      · rcases gv.1 with w | w <;> rw [w] <;> decide +kernel
      rw [tp2.2.2.2]
      refine zW_all (by omega) S2 rfl hs2 ?_ hpq (fun cap2 O2 H3 S3 => mth (by omega) (by omega) S3 ⟨rfl, ?_⟩)
      · show veN (_ :: V) + 1 ≤ pq σ + (Γ.2.2.2.2 + 2)
        rw [veN_c]
        show (v.2.2.1.1 ++ [_]).length + v.2.2.1.2.length + veN V + 1 ≤ _
        rw [List.length_append]
        show (v.2.2.1.1.length + 1) + v.2.2.1.2.length + veN V + 1 ≤ _
        omega
      · rw [gms_1, gms_1, e50.1, e50.2, het, hV]
        exact ⟨rfl, rfl, rfl, rfl, rfl, rfl⟩
theorem okS {b : List Int} : okG (oS b) := Or.inr ⟨Nat.le_refl 101, (by decide : 101 ≤ 106)⟩
theorem okE {v : Int} : okG (oE v) := Or.inr ⟨(by decide : 101 ≤ 102), (by decide : 102 ≤ 106)⟩
theorem okL {s : List Gt} : okG (oL s) := Or.inr ⟨(by decide : 101 ≤ 104), (by decide : 104 ≤ 106)⟩
theorem okT {k v : Int} {b : List Int} : okG (oT k v b) := Or.inr ⟨(by decide : 101 ≤ 103), (by decide : 103 ≤ 106)⟩
theorem okO {kd : Nat} {i : List Int} {s : List Gt} (h : kd < 72) : okG (oO kd i s) := Or.inl h
/-- a place as an Integer -/
theorem zW_int {kk : Option Nat → YS → ZR YS} (hd : 3 ≤ d) (hn : n < 2147483648) (S : SS C B X t Γ H σ η M g h) (hk : ∀ H1 s, SS C B X t Γ H1 σ η ((oE (n : Int), some s) :: M) (g + 1) (h + 1) → zW (kk (some s) H1) Q) : zW (zQ (zc (YL C) d 747 [.inl (n : Int)] H) kk) Q := by
  obtain ⟨d, rfl⟩ : ∃ e, d = e + 3 := ⟨d - 3, by omega⟩
  obtain ⟨i0, e, i1, i2, i3, i4, i5⟩ := S.1.1.1.2.2.2.2.1.2
  refine zW_Q (P := fun v H1 => ∃ s, v = some s ∧ SS C B X t Γ H1 σ η ((oE (n : Int), some s) :: M) (g + 1) (h + 1)) (T := fun _ => False) (zW_c (yl_Integer_valueOf ?_)) (fun v H1 ⟨s, q1, q2⟩ => by rw [q1]; exact hk H1 s q2) (fun _ q => q.elim)
  unfold yb_Integer_valueOf
  refine zW_f (by omega) (zW_svI ?_)
  rw [i0]
  refine zW_if (fun y => ?_) (fun y => ?_)
  · refine zW_svR ?_
    rw [i1]
    refine zW_aR (Or.inr i3) (by omega) ?_
    rw [show (n : Int) + 128 = ((n + 128 : Nat) : Int) by omega]
    obtain ⟨s, q1, q2, q3, q4⟩ := i5 (n + 128) (by omega)
    rw [q1]
    exact zW_rQ ⟨s, rfl, SS_mono (SS_im (k := 102) (Or.inr (Or.inl rfl)) ⟨q2, Or.inr q3, by rw [q4]; show _ = (n : Int); omega⟩ S) (by omega) (by omega)⟩
  · have imF : Im B (fun _ => False) H := ⟨PN_F, fun _ q => q.elim⟩
    have x0 : yEx (fun _ => False) 1 1 H (ymk H 26 0 1) := yEx_mono (yEx_mk (c := 0) (s := 0) yEx_refl) (fun _ _ z => z) (by omega) (by omega)
    have k0 : yK (ymk H 26 0 1) (ynx H) = 26 := by rw [ymk_K, if_pos rfl]
    have l0 : ynx H < ynx (ymk H 26 0 1) := by rw [ymk_x]; omega
    refine zW_new ?_
    rw [if_neg (by decide)]
    generalize ymk H 26 0 1 = H0 at *
    generalize ha : ynx H = a at *
    rw [ycs_s]
    have x1 : yEx (fun x => x = a) 0 0 H0 (yput H0 7800 a (n : Int)) := yEx_put yEx_refl (fun _ => rfl)
    have x2 : yEx (fun _ => False) (1 + 0) (1 + 0) H (yput H0 7800 a (n : Int)) := yEx_trans x0 x1 (fun x hx z => by omega)
    have S2 := SS_loc S x2 imF (fun _ _ q => q.elim) (Lv_ex S.2.1 x2 imF (fun _ _ q => q.elim) (fun _ _ q => q))
    have nm : YL C d 953 [zr a] H0 = some (some none, H0) := by
      refine zW_get (yl_Number_init ?_)
      unfold yb_Number_init
      exact zW_nn (zW_rV ⟨rfl, rfl⟩)
    refine zW_Ve (S := yput H0 7800 a (n : Int)) (zW_get (yl_Integer_init ?_)) (zW_rQ ⟨a, rfl, SS_mono (SS_im (k := 102) (Or.inr (Or.inl rfl)) ⟨l0, Or.inl k0, yput_at⟩ S2) (by omega) (by omega)⟩)
    unfold yb_Integer_init
    rw [ycs_s]
    exact zW_Ve nm (zW_pI k0 (by decide) rfl (zW_rV ⟨rfl, rfl⟩))
/-- a label -/
theorem zW_label {kk : Option Nat → YS → ZR YS} {f : List Int → Ps → PR} (hd : 17 ≤ d) (S : SS C B X t Γ H σ η M g h) (hg : g ≤ 3900) (hh : h ≤ 3800) (he : pLab t σ f = some r) (her : ∀ e p H', r = .inl (e, p) → Th C B X t Γ H' e p → Q none H') (hk : ∀ lb s σ1 H1 η1, SS C B X t Γ H1 σ1 η1 ((oS lb, some s) :: M) (g - 20) (h - 150) → Pn t σ σ1 → Et1 η η1 → (((pc σ).1 = 1 ∧ lb = (pc σ).2.2.1) ∨ ((pc σ).1 = 3 ∧ ∃ n : Nat, 1 ≤ n ∧ n ≤ 9 ∧ (pc σ).2.2.2 = n ∧ lb = [48 + (n : Int)])) → f lb σ1 = some r → zW (kk (some s) H1) Q) : zW (zQ (ycv (YL C) d [(6, 123)] (some (X 8)) [] H) kk) Q := by
  obtain ⟨d, rfl⟩ : ∃ e, d = e + 1 := ⟨d - 1, by omega⟩
  rw [ycv_s (SS_8 S) ⟨by decide, rfl⟩]
  refine zW_Q (P := fun v H1 => ∃ lb s σ1 η1, v = some s ∧ SS C B X t Γ H1 σ1 η1 ((oS lb, some s) :: M) (g - 20) (h - 150) ∧ Pn t σ σ1 ∧ Et1 η η1 ∧ (((pc σ).1 = 1 ∧ lb = (pc σ).2.2.1) ∨ ((pc σ).1 = 3 ∧ ∃ n : Nat, 1 ≤ n ∧ n ≤ 9 ∧ (pc σ).2.2.2 = n ∧ lb = [48 + (n : Int)])) ∧ f lb σ1 = some r) (T := fun H1 => Q none H1) (zW_c (yl_Parser_label ?_)) (fun v H1 ⟨lb, s, σ1, η1, e, S1, p, w, z, e2⟩ => by rw [e]; exact hk lb s σ1 H1 η1 S1 p w z e2) (fun _ q => q)
  unfold pLab at he
  unfold yb_Parser_label
  have hl := SS_tk S
  refine zW_kd 3 12 (by decide) rfl S (fun k3 => ?_) (fun k3 => ?_)
  · rw [if_pos k3] at he
    refine zW_txt S (fun s hs _ => ?_)
    have e121 : cstr 121 = [126] := by decide
    rw [ycv_str hs.2.1]
    obtain ⟨d, rfl⟩ : ∃ e, d = e + 2 := ⟨d - 2, by omega⟩
    refine zW_Ie (y_equals (d := d) (SS_W S) hs ((SS_F S).2 121 (by decide)) (by omega)) ?_
    rw [e121]
    by_cases c1 : (pc σ).2.2.1 = [126]
    · rw [if_pos (Or.inl c1)] at he
      rw [if_pos c1]
      refine zW_f (by decide) (zW_wr (by omega) S (by omega) (by omega) he her)
    rw [if_neg c1]
    refine zW_t rfl (zW_val S ?_)
    refine zW_if (fun c2 => ?_) (fun c2 => zW_val S (zW_if (fun c3 => ?_) (fun c3 => ?_)))
    · rw [if_pos (Or.inr (Or.inl c2))] at he
      exact zW_wr (by omega) S (by omega) (by omega) he her
    · rw [if_neg (fun q => q.elim c1 (fun q => by omega))] at he
      obtain ⟨n, hn⟩ : ∃ n : Nat, (pc σ).2.2.2 = (n : Int) := ⟨(pc σ).2.2.2.toNat, by omega⟩
      have hdg : dgs n = [48 + (n : Int)] := by
        rw [dgs_dgm 0 n (by show n < 10 ^ 1; omega) (Or.inl rfl)]
        show [((48 + n % 10 : Nat) : Int)] = _
        rw [Nat.mod_eq_of_lt (by omega)]
        congr 1
      refine zW_val S ?_
      rw [hn]
      rw [hn] at he
      refine zW_number (by omega) (by omega) S (fun H1 s2 S1 => zW_let ?_)
      rw [hdg] at S1
      refine zW_pass (by omega) S1 (by omega) (by omega) (by omega) he her (fun σ1 H2 η1 S2 p w e => zW_rQ ⟨_, s2, σ1, η1, rfl, SS_mono S2 (by omega) (by omega), p, w, Or.inr ⟨k3, n, by omega, by omega, rfl, rfl⟩, e⟩)
    · rw [if_pos (Or.inr (Or.inr (by omega)))] at he
      exact zW_wr (by omega) S (by omega) (by omega) he her
  · rw [if_neg k3] at he
    refine zW_name (by omega) S (by omega) (by omega) he her (fun k1 s σ1 H1 η1 S1 p w e => zW_rQ ⟨_, s, σ1, η1, rfl, SS_mono S1 (by omega) (by omega), p, w, Or.inl ⟨k1, rfl⟩, e⟩)
/-- labels 1, 2 .. -/
theorem zW_numLoop : ∀ (i k : Nat) (H : YS) (cap a : Nat) (g h : Int), i + k = n → n < 1000 → SS C B X t Γ H σ η ((oC cap (nlb k), some a) :: M) g h → cap ≤ 10 + 2 * n → 13 ≤ d → (∀ H1 cap1, SS C B X t Γ H1 σ η ((oC cap1 (nlb n), some a) :: M) (g + 9 * i) (h + 24 * i + 4 * cap1 - 4 * cap) → cap ≤ cap1 → cap1 ≤ 10 + 2 * n → Q (some (some (.inr (.inr (some a))))) H1) → zW (YL C d 574 [zr (X 8), .inl (n : Int), zr a, .inl ((k + 1 : Nat) : Int)] H) Q := by
  intro i
  induction i with
  | zero =>
    intro k H cap a g h h1 h2 S hc hd hq
    have hk : k = n := by omega
    subst hk
    refine yl_Parser_numbered_p11 ?_
    unfold yb_Parser_numbered_p11
    exact zW_f (by omega) (zW_rQ (hq H cap (SS_mono S (by omega) (by omega)) (Nat.le_refl _) hc))
  | succ i ih =>
    intro k H cap a g h h1 h2 S hc hd hq
    refine yl_Parser_numbered_p11 ?_
    unfold yb_Parser_numbered_p11
    refine zW_t (by omega) (zW_number (n := k + 1) (by omega) (by omega) S (fun H1 s S1 => ?_))
    have S1' := SS_up 1 S1 rfl
    refine zW_add (by omega) (by omega) okS S1' (fun H2 cap1 S2 c1 c2 => ?_)
    have hnl : (nlb k).length = k := by unfold nlb; rw [List.length_map, List.length_range]
    have hns : nlb k ++ [oS (dgs (k + 1))] = nlb (k + 1) := by unfold nlb; rw [List.range_succ, List.map_append]; rfl
    rw [hns] at S2
    rw [hnl] at c2
    refine zW_G (by omega) (zW_let ?_)
    rw [show ((k + 1 : Nat) : Int) + 1 = ((k + 1 + 1 : Nat) : Int) by omega]
    refine ih (k + 1) H2 cap1 a _ _ (by omega) h2 S2 (by omega) hd (fun H3 cap3 S3 c3 c4 => hq H3 cap3 (SS_mono S3 (by omega) (by omega)) (by omega) c4)
theorem zW_numbered {kk : Option Nat → YS → ZR YS} (hd : 14 ≤ d) (hn : n < 1000) (S : SS C B X t Γ H σ η M g h) (hk : ∀ H1 a, SS C B X t Γ H1 σ η ((oL (nlb n), some a) :: M) (g + 2 + 9 * n) (h + 43 + 34 * n) → zW (kk (some a) H1) Q) : zW (zQ (ycv (YL C) d [(6, 120)] (some (X 8)) [.inl (n : Int)] H) kk) Q := by
  obtain ⟨d, rfl⟩ : ∃ e, d = e + 1 := ⟨d - 1, by omega⟩
  rw [ycv_s (SS_8 S) ⟨by decide, rfl⟩]
  refine zW_Q (P := fun v H1 => ∃ a, v = some a ∧ SS C B X t Γ H1 σ η ((oL (nlb n), some a) :: M) (g + 2 + 9 * n) (h + 43 + 34 * n)) (T := fun _ => False) (zW_c (yl_Parser_numbered ?_)) (fun v H1 ⟨s, q1, q2⟩ => by rw [q1]; exact hk H1 s q2) (fun _ q => q.elim)
  unfold yb_Parser_numbered
  refine zW_alnewN (by omega) (by omega) S (fun H1 a S1 => zW_let (zW_let ?_))
  exact zW_numLoop n 0 H1 n a _ _ (by omega) hn S1 (by omega) (by omega) (fun H2 cap1 S2 c1 c2 => ⟨a, rfl, SS_mono (SS_oL S2) (by omega) (by omega)⟩)
end YVar
