set_option maxRecDepth 100000
/-! THE HOUSE'S PARSER: val and fun begun and ended, infix names told, types told -/
section YOw3
variable {C : YC} {B P O : Nat → Prop} {X : Nat → Nat} {t : List Int} {Γ : Gm} {H H' : YS} {σ σ1 : Ps} {η η' η1 : Et} {M : List (Gt × Option Nat)} {g h g' h' : Int} {a e c s d dp n cap N : Nat} {F F' : List (List Int × Int × Int)} {Q : Option (Option ZV) → YS → Prop} {r : (Int × Nat) ⊕ (Gt × Ps)} {l : List Gt} {θ : Gt} {w : Option Nat} {f : Ps → PR} {v : Ve} {V : List Ve}
theorem SS_oW (S : SS C B X t Γ H σ η ((θ, w) :: M) g h) : SS C B X t Γ H σ η ((oW (ynx Γ.1) θ, w) :: M) g h := by
  obtain ⟨F, h1, G, F1, g1, g2, g3, g4, g5⟩ := S.2.1
  exact ⟨S.1, ⟨F, h1, G, F1, g1, g2, g3, YO_oW.mpr ⟨G, fun _ q => q, fun x q => (h1 x (g1 x q)).1, g4⟩, g5⟩, S.2.2⟩
theorem zW_open {k : YS → ZR YS} {kd l1 l2 : Nat} {p : List Int} {fs : List Gt} (hd : 10 ≤ d) (hkd : kd = 24 ∨ kd = 58) (hV : (eV η).length ≤ pd σ) (S : SS C B X t Γ H σ η ((oO kd p (oF 7200 (oA l1) :: oF 7201 (oA l2) :: fs), some a) :: (oC 0 [], some l1) :: (oC 0 [], some l2) :: M) g h) (hk : ∀ H1 O' cap1, SS C B X t Γ H1 σ (O', (ec η, es η, cap1), et η, ((a, (kd, p, fs), ([], []), (0, 0), (l1, l2), ynx Γ.1) : Ve) :: eV η) M (g + 1) (h + 80) → zW (k H1) Q) : zW (zV (ycv (YL C) d [(6, 107)] (some (X 8)) [.inr (.inr (some a))] H) k) Q := by
  obtain ⟨d, rfl⟩ : ∃ e, d = e + 1 := ⟨d - 1, by omega⟩
  have k8 := SS_8 S
  have r1803 := S.1.1.2.2.1.2.2.2.2.2.1
  have g7 := S.1.1.2.2.2.2.2.2.1
  have dd := S.1.1.2.2.2.1
  have vl := SS_vl S
  have hu := S.2.2.2.2.2.2
  rw [ycv_s k8 ⟨by decide, rfl⟩]
  obtain ⟨_, ea, a1, a2, -⟩ := Lv_at (by omega) S.2.1
  cases ea
  have S1 := SS_oW S
  have S2 := SS_pk 2 [1, 0] rfl rfl S1
  have S3 := SS_oW S2
  have S4 := SS_pk 3 [2, 1, 0] rfl rfl S3
  have S5 := SS_oW S4
  have S6 := SS_pk 3 [1, 2, 0] rfl rfl S5
  have S7 : SS C B X t Γ H σ η (veM ((a, (kd, p, fs), ([], []), (0, 0), (l1, l2), ynx Γ.1) : Ve) ++ M) g h := S6
  refine zW_V (P := fun H1 => ∃ O' cap1, SS C B X t Γ H1 σ (O', (ec η, es η, cap1), et η, ((a, (kd, p, fs), ([], []), (0, 0), (l1, l2), ynx Γ.1) : Ve) :: eV η) M (g + 1) (h + 80)) (T := fun _ => False) (zW_c (yl_Parser_open ?_)) (fun H1 ⟨O', cap1, w⟩ => hk H1 O' cap1 w) (fun _ w => w.elim)
  unfold yb_Parser_open
  refine zW_gR k8 rfl ?_
  rw [r1803]
  have hll : ((eV η).reverse.map fun v : Ve => oA v.1).length = (eV η).length := by rw [List.length_map, List.length_reverse]
  refine zW_oaddE (F' := pF σ) (θ := oA a) (g' := g + 1) (h' := h + 80) (veM ((a, (kd, p, fs), ([], []), (0, 0), (l1, l2), ynx Γ.1) : Ve)) 1 (by omega) S.1.2.2.2.2.2.2.2 S7 (cap := ev η) (l := (eV η).reverse.map fun v : Ve => oA v.1) (by omega) rfl (fun x hx => ?_) (fun H1 c s P _ _ => YO_oA.mpr rfl) (fun cap1 O' => (O', (ec η, es η, cap1), et η, ((a, (kd, p, fs), ([], []), (0, 0), (l1, l2), ynx Γ.1) : Ve) :: eV η)) (fun cap1 O' c1 c2 => ⟨rfl, rfl, rfl, ?_⟩) (fun cap1 O' c1 c2 => ⟨⟨g7.1, ?_, ?_⟩, ⟨?_, ?_⟩, ?_, ?_⟩) (fun cap1 O' H1 c1 S1 => zW_rV ⟨O', cap1, S1⟩)
  · cases hx
    exact ⟨a1, by rw [a2]; rcases hkd with q | q <;> rw [q] <;> exact yokE_72 _ (by decide)⟩
  · have e1 : ((((a, (kd, p, fs), ([], []), (0, 0), (l1, l2), ynx Γ.1) : Ve) :: eV η).reverse.map fun v : Ve => oA v.1) = ((eV η).reverse.map fun v : Ve => oA v.1) ++ [oA a] := by
      rw [List.reverse_cons, List.map_append]; rfl
    unfold ovM
    show (_ :: (_ :: (eV η).flatMap veM) ++ _).Perm (_ :: (oC cap1 (List.map _ _), _) :: (veM _ ++ (eV η).flatMap veM))
    rw [e1]
    exact (List.perm_append_comm.cons _).cons _
  · show cap1 ≤ 1000000
    rw [hll] at c2
    have := g7.2.1
    omega
  · intro u hu
    rcases List.mem_cons.mp hu with rfl | hu
    · exact ⟨hkd, Nat.zero_le _, Nat.zero_le _⟩
    · exact g7.2.2 u hu
  · show veN (_ :: eV η) ≤ _
    rw [veN_c]
    show 0 + 0 + veN (eV η) ≤ _
    omega
  · show (eV η).length + 1 ≤ _
    omega
  · show (1 : Int) + ccV (_ :: eV η) + g ≤ _
    rw [ccV_c]
    show (1 : Int) + (((eV η).length * 0 + ccV (eV η) : Nat) : Int) + g ≤ _
    omega
  · show _ + crV (_ :: eV η) + 4 * ((es η : Int) + ev η) + _ ≤ crV (eV η) + 4 * ((es η : Int) + (cap1 : Nat)) + _
    rw [crV_c]
    show _ + ((80 + 8 * ((0 : Nat) : Int) + 8 * ((0 : Nat) : Int) - 4 * ((0 : Nat) : Int) - 4 * ((0 : Nat) : Int)) + 8 * (((eV η).length * 0 : Nat) : Int) + crV (eV η)) + _ + _ ≤ _
    omega
/-- a mention out of a list -/
theorem zW_getM {kk : Option Nat → YS → ZR YS} {i : Nat} {p : Int} {b : List Int} (hd : 3 ≤ d) (S : SS C B X t Γ H σ η ((oC cap l, some a) :: M) g h) (hi : l[i]? = some (oM p b)) (hk : ∀ s, ImY C B H 105 [[p], b] s → zW (kk (some s) H) Q) : zW (zQ (ycv (YL C) d [(5, 528)] (some a) [.inl (i : Int)] H) kk) Q := by
  obtain ⟨d, rfl⟩ : ∃ e, d = e + 3 := ⟨d - 3, by omega⟩
  obtain ⟨a', e, xs, F, G, F1, ha, h1, g1, g2, g3, ga, A, ge, hl, q6, g5⟩ := Lv_lst S.2.1
  cases ha
  have hil : i < l.length := (List.getElem?_eq_some_iff.mp hi).1
  have hw : xs[i]? = some (xs[i]'(by omega)) := List.getElem?_eq_getElem _
  obtain ⟨G', q1, q2⟩ := sep_get i (q := (YO C B H (oM p b), xs[i]'(by omega))) (by rw [List.getElem?_zip_eq_some]; exact ⟨by rw [List.getElem?_map, hi]; rfl, hw⟩) q6
  have q2 : YO C B H (oM p b) G' (xs[i]'(by omega)) := q2
  obtain ⟨s, e1, e2⟩ := YO_im (Or.inr (Or.inr (Or.inr (Or.inl rfl)))) q2
  rw [ycv_s A.2.1 ⟨by decide, rfl⟩]
  refine zW_Qe (y_get (d := d) (k := i) A (by omega)) ?_
  rw [List.getD_eq_getElem?_getD, hw, e1]
  exact hk s e2
theorem zW_close {k : YS → ZR YS} (hd : 24 ≤ d) (hV : eV η = v :: V) (hn : v.2.2.2.2.2 = ynx Γ.1) (hm : ∀ x ∈ v.2.2.1.2, ∃ p b, x = oM p b) (hq : pq σ ≤ 100000) (S : SS C B X t Γ H σ η M g h) (hk : ∀ H1 η1, SS C B X t Γ H1 σ η1 ((oO v.2.1.1 v.2.1.2.1 (oF 7200 (oL v.2.2.1.1) :: oF 7201 (oL v.2.2.1.2) :: v.2.1.2.2), some v.1) :: M) g h → et η1 = et η → VR [] v.2.2.1.2 V (eV η1) → zW (k H1) Q) : zW (zV (ycv (YL C) d [(6, 157)] (some (X 8)) [] H) k) Q := by
  obtain ⟨d, rfl⟩ : ∃ e, d = e + 2 := ⟨d - 2, by omega⟩
  have k8 := SS_8 S
  have r1803 := S.1.1.2.2.1.2.2.2.2.2.1
  have g7 := S.1.1.2.2.2.2.2.2.1
  have gv := g7.2.2 v (by rw [hV]; exact List.mem_cons_self)
  have vl := SS_vl S
  have hu := S.2.2.2.2.2.2
  obtain ⟨e0, A0⟩ := SS_val S
  obtain ⟨t1, t2, t3, t4⟩ := SS_top S hV
  have hkd : v.2.1.1 < 100 := by omega
  rw [ycv_s k8 ⟨by decide, rfl⟩]
  refine zW_V (P := fun H1 => ∃ η1, SS C B X t Γ H1 σ η1 ((oO v.2.1.1 v.2.1.2.1 (oF 7200 (oL v.2.2.1.1) :: oF 7201 (oL v.2.2.1.2) :: v.2.1.2.2), some v.1) :: M) g h ∧ et η1 = et η ∧ VR [] v.2.2.1.2 V (eV η1)) (T := fun _ => False) (zW_c (yl_Parser_close ?_)) (fun H1 ⟨η1, w1, w2, w3⟩ => hk H1 η1 w1 w2 w3) (fun _ w => w.elim)
  unfold yb_Parser_close
  refine zW_gR k8 rfl ?_
  rw [r1803]
  refine zW_gR k8 rfl ?_
  rw [r1803, ycv_s A0.2.1 ⟨by decide, rfl⟩]
  refine zW_Ie (y_size A0) ?_
  have hlen : ((eV η).reverse.map fun v : Ve => some v.1).length = V.length + 1 := by rw [List.length_map, List.length_reverse, hV]; rfl
  have hlV : (V.reverse.map fun v : Ve => oA v.1).length = V.length := by rw [List.length_map, List.length_reverse]
  rw [hlen]
  rw [hV] at vl
  have vl : V.length + 1 ≤ pd σ + 1 := vl
  have dd := S.1.1.2.2.2.1.2.1.1
  refine zW_G (by omega) ?_
  rw [show ((V.length + 1 : Nat) : Int) - 1 = ((V.reverse.map fun v : Ve => oA v.1).length : Int) by rw [hlV]; omega]
  have hvn : veN (eV η) = v.2.2.1.1.length + v.2.2.1.2.length + veN V := by rw [hV]; exact veN_c
  have hE : veM v = [(oW (ynx Γ.1) (veT v), some v.1), (oW (ynx Γ.1) (oC v.2.2.2.1.1 v.2.2.1.1), some v.2.2.2.2.1.1), (oW (ynx Γ.1) (oC v.2.2.2.1.2 v.2.2.1.2), some v.2.2.2.2.1.2)] := by unfold veM; rw [hn]
  refine zW_opop (F' := pF σ) (θ := oA v.1) (l := V.reverse.map fun v : Ve => oA v.1) (cap := ev η) (R := (oC (es η) (stT (pF σ)), some (X 9)) :: V.flatMap veM) (E := veM v) (g' := g - ((V.length * v.2.2.1.2.length : Nat) : Int)) (h' := h - (80 + 8 * v.2.2.1.1.length + 8 * v.2.2.1.2.length - 4 * v.2.2.2.1.1 - 4 * v.2.2.2.1.2 : Int) - 8 * ((V.length * v.2.2.1.2.length : Nat) : Int)) (by omega) S.1.2.2.2.2.2.2.2 (by omega) S ?_ (fun O' => (O', (ec η, es η, ev η), et η, V)) (fun O' => ⟨rfl, rfl, rfl, ?_⟩) (fun q hq => ?_) (fun O' => ⟨⟨g7.1, g7.2.1, fun u hu => g7.2.2 u (by rw [hV]; exact List.mem_cons_of_mem _ hu)⟩, ⟨?_, ?_⟩, ?_, ?_⟩) (fun O' H1 w hw S1 => ?_)
  · unfold ovM
    rw [hV]
    show ((oC (es η) _, _) :: (oC (ev η) (List.map _ (v :: V).reverse), _) :: (veM v ++ V.flatMap veM)).Perm _
    rw [List.reverse_cons, List.map_append]
    refine (List.Perm.swap _ _ _).trans (List.Perm.cons _ (List.Perm.cons _ ?_))
    exact List.perm_append_comm
  · unfold ovM
    exact List.Perm.swap _ _ _
  · rw [hE] at hq
    rcases List.mem_cons.mp hq with rfl | hq
    · exact ⟨_, rfl⟩
    rcases List.mem_cons.mp hq with rfl | hq
    · exact ⟨_, rfl⟩
    rcases List.mem_cons.mp hq with rfl | hq
    · exact ⟨_, rfl⟩
    · cases hq
  · show veN V ≤ _
    omega
  · show V.length ≤ _
    omega
  · show (ccV V : Int) + g ≤ _
    rw [hV, ccV_c]
    generalize V.length * v.2.2.1.2.length = z
    omega
  · show crV V + _ + _ ≤ crV (eV η) + 4 * ((es η : Int) + (ev η : Nat)) + _
    rw [hV, crV_c]
    generalize V.length * v.2.2.1.2.length = z
    omega
  · obtain ⟨G2, hw⟩ := hw
    have hw := YO_oA.mp hw
    subst hw
    have S2 : SS C B X t Γ H1 σ (O', (ec η, es η, ev η), et η, V) ((veT v, some v.1) :: (oC v.2.2.2.1.1 v.2.2.1.1, some v.2.2.2.2.1.1) :: (oC v.2.2.2.1.2 v.2.2.1.2, some v.2.2.2.2.1.2) :: M) (g - ((V.length * v.2.2.1.2.length : Nat) : Int)) (h - (80 + 8 * v.2.2.1.1.length + 8 * v.2.2.1.2.length - 4 * v.2.2.2.1.1 - 4 * v.2.2.2.1.2 : Int) - 8 * ((V.length * v.2.2.1.2.length : Nat) : Int)) := by
      rw [hE] at S1
      have e1 : ∀ n θ, (gs (oW n θ)).getD 0 oN = θ := fun n θ => by unfold oW; rw [gs_gn]; rfl
      have S1 := S1
      rw [List.map_cons, List.map_cons, List.map_cons, e1, e1, e1] at S1
      exact S1
    have fin : ∀ (H2 : YS) (η2 : Et) (g2 h2 : Int), SS C B X t Γ H2 σ η2 ((veT v, some v.1) :: (oC v.2.2.2.1.1 v.2.2.1.1, some v.2.2.2.2.1.1) :: (oC v.2.2.2.1.2 v.2.2.1.2, some v.2.2.2.2.1.2) :: M) g2 h2 → g2 ≤ g → h2 ≤ h → SS C B X t Γ H2 σ η2 ((oO v.2.1.1 v.2.1.2.1 (oF 7200 (oL v.2.2.1.1) :: oF 7201 (oL v.2.2.1.2) :: v.2.1.2.2), some v.1) :: M) g h := by
      intro H2 η2 g2 h2 S3 w1 w2
      have S4 := SS_oL (SS_pk 3 [2, 0, 1] rfl rfl S3)
      have S5 := SS_oL (SS_pk 3 [2, 0, 1] rfl rfl S4)
      have S6 := SS_pk 3 [2, 0, 1] rfl rfl S5
      have S7 := SS_nest [] hkd S6
      exact SS_mono (SS_nest [oF 7200 (oL v.2.2.1.1)] hkd S7) w1 w2
    have hkd' : ∀ kd : Nat, kd = 24 ∨ kd = 58 → ycast 10 220 kd = true := by
      rintro kd (rfl | rfl) <;> decide +kernel
    obtain ⟨_, ez, z1, z2, -⟩ := Lv_at hkd S2.2.1
    cases ez
    refine zW_cc z2 (hkd' _ gv.1) (zW_let ?_)
    cases V with
    | nil =>
      refine zW_vempty (by omega) S2 (fun _ => zW_f (by decide) (zW_rV ⟨_, fin H1 _ _ _ S2 ?_ ?_, rfl, trivial⟩)) (fun q => absurd rfl q)
      · omega
      · omega
    | cons u V' =>
      refine zW_vempty (by omega) S2 (fun q => by cases q) (fun _ => zW_t rfl ?_)
      refine zW_vtop (by omega) S2 rfl (zW_let (zW_let ?_))
      have key : ∀ (m i : Nat) (H2 : YS) (η2 : Et) (u' : Ve) (g2 h2 : Int), m + i = v.2.2.1.2.length → et η2 = et η → eV η2 = u' :: V' → u'.1 = u.1 → u'.2.1 = u.2.1 → u'.2.2.1.1 = u.2.2.1.1 → u'.2.2.1.2 = u.2.2.1.2 ++ v.2.2.1.2.take i → u'.2.2.2.2 = u.2.2.2.2 → SS C B X t Γ H2 σ η2 ((veT v, some v.1) :: (oC v.2.2.2.1.1 v.2.2.1.1, some v.2.2.2.2.1.1) :: (oC v.2.2.2.1.2 v.2.2.1.2, some v.2.2.2.2.1.2) :: M) g2 h2 → g2 + ((m * (1 + V'.length) : Nat) : Int) ≤ g → h2 + 8 * ((m * (1 + V'.length) : Nat) : Int) ≤ h → zW (YL C (d + 1) 608 [zr v.1, zr u.1, .inl (i : Int)] H2) (oV (fun H1 => ∃ η1, SS C B X t Γ H1 σ η1 ((oO v.2.1.1 v.2.1.2.1 (oF 7200 (oL v.2.2.1.1) :: oF 7201 (oL v.2.2.1.2) :: v.2.1.2.2), some v.1) :: M) g h ∧ et η1 = et η ∧ VR [] v.2.2.1.2 (u :: V') (eV η1)) (fun _ => False)) := by
        intro m
        induction m with
        | zero =>
          intro i H2 η2 u' g2 h2 hi ht hE2 u1 u2 u3 u4 u5 S3 w1 w2
          refine yl_Parser_close_p53 ?_
          unfold yb_Parser_close_p53
          refine zW_gA [oF 7200 (oA v.2.2.2.2.1.1)] hkd (by rcases gv.1 with q | q <;> rw [q] <;> decide) S3 ?_
          refine zW_size (by omega) (SS_up 2 S3 rfl) (zW_f (by omega) (zW_rV ⟨η2, fin H2 η2 _ _ S3 (by simpa using w1) (by simpa using w2), ht, ?_⟩))
          rw [hE2]
          refine ⟨u1, u2, by rw [u3, List.append_nil], ?_, u5, rfl⟩
          rw [u4, List.take_of_length_le (by omega)]
        | succ m ih =>
          intro i H2 η2 u' g2 h2 hi ht hE2 u1 u2 u3 u4 u5 S3 w1 w2
          have hil : i < v.2.2.1.2.length := by omega
          obtain ⟨p, b, hpb⟩ := hm _ (List.getElem_mem hil)
          have hiM : v.2.2.1.2[i]? = some (oM p b) := by rw [List.getElem?_eq_getElem hil, hpb]
          obtain ⟨f1, f2, f3, f4⟩ := SS_top S3 hE2
          have hmul : (m + 1) * (1 + V'.length) = m * (1 + V'.length) + (1 + V'.length) := Nat.succ_mul _ _
          rw [hmul] at w1 w2
          have hvn2 := S3.2.2.2.2.2.2.1
          have g72 := S3.1.1.2.2.2.2.2.2.1
          have hlt : v.2.2.1.2.length ≤ 200000 := by omega
          refine yl_Parser_close_p53 ?_
          unfold yb_Parser_close_p53
          refine zW_gA [oF 7200 (oA v.2.2.2.2.1.1)] hkd (by rcases gv.1 with q | q <;> rw [q] <;> decide) S3 ?_
          refine zW_size (by omega) (SS_up 2 S3 rfl) (zW_t (by omega) ?_)
          rw [← u1]
          refine zW_gR f2 (by rcases (g72.2.2 u' (by rw [hE2]; exact List.mem_cons_self)).1 with q | q <;> rw [q] <;> decide) ?_
          rw [f4]
          refine zW_gA [oF 7200 (oA v.2.2.2.2.1.1)] hkd (by rcases gv.1 with q | q <;> rw [q] <;> decide) S3 ?_
          refine zW_getM (by omega) (SS_up 2 S3 rfl) hiM (fun s hs => ?_)
          refine zW_cc hs.2.1 (by decide +kernel) ?_
          refine zW_all (by omega) S3 hE2 hs ?_ hq (fun cap1 O2 H3 S4 => zW_G (by omega) (zW_let ?_))
          · have hk1 : u'.2.2.1.2.length = u.2.2.1.2.length + i := by rw [u4, List.length_append, List.length_take]; omega
            have : veN (eV η2) = u'.2.2.1.1.length + u'.2.2.1.2.length + veN V' := by rw [hE2]; exact veN_c
            have hvu : veN (u :: V') = u.2.2.1.1.length + u.2.2.1.2.length + veN V' := veN_c
            rw [u3] at this
            omega
          · rw [u1, show (i : Int) + 1 = ((i + 1 : Nat) : Int) by omega]
            refine ih (i + 1) H3 (O2, η2.2.1, et η2, (u'.1, u'.2.1, (u'.2.2.1.1, u'.2.2.1.2 ++ [oM p b]), (u'.2.2.2.1.1, cap1), u'.2.2.2.2) :: V') (u'.1, u'.2.1, (u'.2.2.1.1, u'.2.2.1.2 ++ [oM p b]), (u'.2.2.2.1.1, cap1), u'.2.2.2.2) _ _ (by omega) ht rfl u1 u2 u3 ?_ u5 S4 (by omega) (by omega)
            show u'.2.2.1.2 ++ [oM p b] = _
            rw [u4, List.append_assoc, List.take_succ, hiM]; rfl
      refine key v.2.2.1.2.length 0 H1 (O', (ec η, es η, ev η), et η, u :: V') u _ _ rfl rfl rfl rfl rfl rfl (by rw [List.take_zero, List.append_nil]) rfl S2 ?_ ?_
      · rw [show v.2.2.1.2.length * (1 + V'.length) = (u :: V').length * v.2.2.1.2.length by rw [Nat.mul_comm]; show _ = (V'.length + 1) * _; rw [Nat.add_comm]]
        generalize (u :: V').length * v.2.2.1.2.length = z
        omega
      · rw [show v.2.2.1.2.length * (1 + V'.length) = (u :: V').length * v.2.2.1.2.length by rw [Nat.mul_comm]; show _ = (V'.length + 1) * _; rw [Nat.add_comm]]
        generalize (u :: V').length * v.2.2.1.2.length = z
        omega
/-- types told: no VARIABLES meanwhile -/
theorem zW_told {k : YS → ZR YS} {b : Bool} {m : Nat} (hm : veN (eV η) ≤ pq σ + m ∧ m ≤ 10 ∧ (b = true ↔ 5 ≤ m)) (S : SS C B X t Γ H σ η M g h) (hk : ∀ H1 O', SS C B X t (Gu Γ m) H1 σ (O', η.2.1, b, eV η) M g h → zW (k H1) Q) : zW (ypI 1807 1 (some (X 8)) (bI b) H k) Q := by
  have S0 := S
  obtain ⟨⟨h0, h1, h2, ⟨KW, h3, h4⟩, h5, h7, h8⟩, L, E, hO, hg1, hh1, h9⟩ := S
  have ex : yEx (fun x => PL X H x ∨ x = X 8) 0 0 H (yput H 1807 (X 8) (bI b)) := yEx_put yEx_refl (fun _ => Or.inr rfl)
  have exl : yEx (fun x => x = X 8) 0 0 H (yput H 1807 (X 8) (bI b)) := yEx_put yEx_refl (fun _ => rfl)
  have im := Im_pl (B := B) (SS_F S0) (SS_8 S0)
  have tk : tkO C B X (yput H 1807 (X 8) (bI b)) σ := by
    obtain ⟨⟨x, q1, q2⟩, ⟨y, q3, q4⟩, q5⟩ := h1
    have im1 : Im B (fun x => x = X 8) H := ⟨fun x w => im.1 x (Or.inr w), fun x w => im.2 x (Or.inr w)⟩
    have nk : ∀ z k, TokY C B H z k → z ≠ X 8 := fun z k q w => (im1.2 z w q.1).1 q.2.1
    exact ⟨⟨x, q1, TokY_ex q2 exl im1.1 (nk _ _ q2)⟩, ⟨y, q3, TokY_ex q4 exl im1.1 (nk _ _ q4)⟩, q5⟩
  refine zW_pI (SS_8 S0) (by decide) (by cases b <;> rfl) ?_
  refine hk _ _ (SS_pl (dp' := pd σ) (cp := ec η) (tl := b) S0 ex (Lf_put (by decide) (SS_F S0)) (fun _ _ q => q) h0.2.1.2.2.2.2.2 (fun _ _ _ => rfl) ((yput_f (by decide)).trans h0.2.2.2.1.1) h0.2.2.2.1.2.1 yput_at ⟨rfl, rfl⟩ tk (Lt_put (by decide) h2) ⟨KW, LnY_put h3 (by decide), h4⟩ ((yput_f (by decide)).trans h5) h7 h8.1 (Nat.le_refl _) ?_ ?_ hm)
  · show (0 : Int) + _ + _ + _ ≤ 80 * (pq σ : Int) + (pi' σ : Int) + _; omega
  · show (0 : Int) + _ + _ + _ + _ ≤ 500 * (pq σ : Int) + 8 * (pi' σ : Int) + _ + _; omega
end YOw3
