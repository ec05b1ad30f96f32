set_option maxRecDepth 100000
/-! THE HOUSE'S PARSER: one input as a whole (printed by gen/dsl/p74xv.py) -/
/-- the parser between inputs: what lies on its list of values is of no account -/
def PBi (C : YC) (B : Nat → Prop) (X : Nat → Nat) (H : YS) (F : List (List Int × Int × Int)) (η : Et) (L : List Nat) : Prop :=
  ((∀ x, eO η x → x < ynx H) ∧ (∀ x, B x → x < ynx H) ∧ KD C ∧ CW C ∧ (CE C H ∧ KI C H) ∧ Lf C B X H) ∧
  ((∀ x, PL X H x → eO η x) ∧ eO η (X 8) ∧ eO η (X 11) ∧ eO η (X 1) ∧ eO η (X 2) ∧ ∃ e, yR H 1501 (X 5) = some e ∧ e < ynx H) ∧
  (X 8 < ynx H ∧ yK H (X 8) = 6 ∧ yR H 1800 (X 8) = some (X 3) ∧ yR H 1801 (X 8) = some (X 0) ∧ yR H 1802 (X 8) = some (X 9) ∧ yR H 1803 (X 8) = some (X 10) ∧ yR H 1808 (X 8) = some (X 12) ∧ yR H 1809 (X 8) = some (X 11)) ∧
  ImY C B H 106 [[4, 0], [61]] (X 12) ∧
  (X 11 < ynx H ∧ yK H (X 11) = 1006 ∧ yN H (X 11) = 1001 ∧ X 11 ≠ X 1 ∧ ∀ j : Nat, j < 1001 → yB H (X 11) j = none ∨ ∃ s, yB H (X 11) j = some s ∧ StrY B H s (dgs j)) ∧
  (es η ≤ 1000000 ∧ ∀ f ∈ F, f.1.length ≤ 200) ∧ ev η ≤ 1000000 ∧
  ∃ O2 : Nat → Prop, (∀ x, O2 x → eO η x ∧ ¬ PL X H x ∧ x ≠ X 8 ∧ x ≠ X 11 ∧ x ≠ X 1 ∧ x ≠ X 2) ∧ sep O2 ([(oC (es η) (stT F), some (X 9)), (oC (ev η) (L.map oA), some (X 10))].map fun q => (YO C B H q.1, q.2))
/-- between inputs, and what has been made: M -/
def PFin (C : YC) (B : Nat → Prop) (X : Nat → Nat) (t : List Int) (Γ : Gm) (H : YS) (F : List (List Int × Int × Int)) (M : List (Gt × Option Nat)) : Prop :=
  ∃ η L j KW, PBi C B X H F η L ∧ Lt X H t j ∧ LnY B X H KW (ec η) ∧ KW.length ≤ 1002 ∧ Lv C B (ynx Γ.1) (eO η) H M ∧ yEx Γ.2.1 (ynx H - ynx Γ.1) (ysl H - ysl Γ.1) Γ.1 H ∧ (∀ x, x < ynx Γ.1 → eO η x → Γ.2.1 x) ∧
  (ynx H : Int) + Γ.2.2.1 ≤ 122 * t.length + 5000 ∧ (ysl H : Int) + Γ.2.2.2.1 ≤ 766 * t.length + 4 * (ec η + es η + ev η) + 5000
/-- the first two tokens -/
def gStart (t : List Int) (F : List (List Int × Int × Int)) : (Int × Nat) ⊕ Ps := match sRead t 0 0 with
  | .inl e => .inl e
  | .inr (k, j) => if k.1 = 6 then .inr (k, k, 0, j, 0, F, 0) else match sRead t 1 j with
    | .inl e => .inl e
    | .inr (k', j') => .inr (k, k', 1 + (if k'.1 = 6 then 0 else 1), j', 0, F, 0)
/-- one input -/
def sIn (t : List Int) (F : List (List Int × Int × Int)) (n : Nat) : PR := pT (gStart t F) fun σ => gInput t (sP t n) σ
section YInp
variable {C : YC} {B P O : Nat → Prop} {X : Nat → Nat} {t : List Int} {Γ : Gm} {H H' : YS} {σ σ1 : Ps} {η η1 : Et} {M : List (Gt × Option Nat)} {g h g' h' : Int} {a e c s d dp cap : Nat} {F : List (List Int × Int × Int)} {Q : Option (Option ZV) → YS → Prop} {r : (Int × Nat) ⊕ (Gt × Ps)} {f : Ps → PR} {θ τ : Gt} {w : Option Nat} {l : List Gt} {tk : Tok} {R : PX}
theorem zW_openI {k : Int → YS → ZR YS} {kd l1 l2 : Nat} {p : List Int} {fs : List Gt} (hd : 10 ≤ d) (hkd : kd = 24 ∨ kd = 58) (hV : (eV η).length ≤ pd σ) (S : SS C B X t Γ H σ η ((oO kd p (oF 7200 (oA l1) :: oF 7201 (oA l2) :: fs), some a) :: (oC 0 [], some l1) :: (oC 0 [], some l2) :: M) g h) (hk : ∀ H1 O' cap1, SS C B X t Γ H1 σ (O', (ec η, es η, cap1), et η, ((a, (kd, p, fs), ([], []), (0, 0), (l1, l2), ynx Γ.1) : Ve) :: eV η) M (g + 1) (h + 80) → zW (k 1 H1) Q) : zW (ygR 1803 (some (X 8)) H fun v13 => zI (ycv (YL C) d [(5, 505)] v13 [.inr (.inr (some a))] H) k) Q := by
  have k8 := SS_8 S
  have r1803 := S.1.1.2.2.1.2.2.2.2.2.1
  have g7 := S.1.1.2.2.2.2.2.2.1
  have dd := S.1.1.2.2.2.1
  have vl := SS_vl S
  have hu := S.2.2.2.2.2.2
  obtain ⟨_, ea, a1, a2, -⟩ := Lv_at (by omega) S.2.1
  cases ea
  have S1 := SS_oW S
  have S2 := SS_pk 2 [1, 0] rfl rfl S1
  have S3 := SS_oW S2
  have S4 := SS_pk 3 [2, 1, 0] rfl rfl S3
  have S5 := SS_oW S4
  have S6 := SS_pk 3 [1, 2, 0] rfl rfl S5
  have S7 : SS C B X t Γ H σ η (veM ((a, (kd, p, fs), ([], []), (0, 0), (l1, l2), ynx Γ.1) : Ve) ++ M) g h := S6
  refine zW_gR k8 rfl ?_
  rw [r1803]
  have hll : ((eV η).reverse.map fun v : Ve => oA v.1).length = (eV η).length := by rw [List.length_map, List.length_reverse]
  refine zW_oaddE (F' := pF σ) (θ := oA a) (g' := g + 1) (h' := h + 80) (veM ((a, (kd, p, fs), ([], []), (0, 0), (l1, l2), ynx Γ.1) : Ve)) 1 (by omega) S.1.2.2.2.2.2.2.2 S7 (cap := ev η) (l := (eV η).reverse.map fun v : Ve => oA v.1) (by omega) rfl (fun x hx => ?_) (fun H1 c s P _ _ => YO_oA.mpr rfl) (fun cap1 O' => (O', (ec η, es η, cap1), et η, ((a, (kd, p, fs), ([], []), (0, 0), (l1, l2), ynx Γ.1) : Ve) :: eV η)) (fun cap1 O' c1 c2 => ⟨rfl, rfl, rfl, ?_⟩) (fun cap1 O' c1 c2 => ⟨⟨g7.1, ?_, ?_⟩, ⟨?_, ?_⟩, ?_, ?_⟩) (fun cap1 O' H1 c1 S1 => hk H1 O' cap1 S1)
  · cases hx
    exact ⟨a1, by rw [a2]; rcases hkd with q | q <;> rw [q] <;> exact yokE_72 _ (by decide)⟩
  · have e1 : ((((a, (kd, p, fs), ([], []), (0, 0), (l1, l2), ynx Γ.1) : Ve) :: eV η).reverse.map fun v : Ve => oA v.1) = ((eV η).reverse.map fun v : Ve => oA v.1) ++ [oA a] := by
      rw [List.reverse_cons, List.map_append]; rfl
    unfold ovM
    show (_ :: (_ :: (eV η).flatMap veM) ++ _).Perm (_ :: (oC cap1 (List.map _ _), _) :: (veM _ ++ (eV η).flatMap veM))
    rw [e1]
    exact (List.perm_append_comm.cons _).cons _
  · show cap1 ≤ 1000000
    rw [hll] at c2
    have := g7.2.1
    omega
  · intro u hu
    rcases List.mem_cons.mp hu with rfl | hu
    · exact ⟨hkd, Nat.zero_le _, Nat.zero_le _⟩
    · exact g7.2.2 u hu
  · show veN (_ :: eV η) ≤ _
    rw [veN_c]
    show 0 + 0 + veN (eV η) ≤ _
    omega
  · show (eV η).length + 1 ≤ _
    omega
  · show (1 : Int) + ccV (_ :: eV η) + g ≤ _
    rw [ccV_c]
    show (1 : Int) + (((eV η).length * 0 + ccV (eV η) : Nat) : Int) + g ≤ _
    omega
  · show _ + crV (_ :: eV η) + 4 * ((es η : Int) + ev η) + _ ≤ crV (eV η) + 4 * ((es η : Int) + (cap1 : Nat)) + _
    rw [crV_c]
    show _ + ((80 + 8 * ((0 : Nat) : Int) + 8 * ((0 : Nat) : Int) - 4 * ((0 : Nat) : Int) - 4 * ((0 : Nat) : Int)) + 8 * (((eV η).length * 0 : Nat) : Int) + crV (eV η)) + _ + _ ≤ _
    omega
theorem PBi_of {dp : Nat} {F : List (List Int × Int × Int)} (h : PB0 C B X H dp F η) : PBi C B X H F η ((eV η).reverse.map fun v => v.1) := by
  obtain ⟨O2, o1, o2⟩ := h.2.2.2.2.2.2.2
  refine ⟨h.1, h.2.1, h.2.2.1, h.2.2.2.2.1, h.2.2.2.2.2.1, h.2.2.2.2.2.2.1.1, h.2.2.2.2.2.2.1.2.1, O2, o1, ?_⟩
  rw [List.map_map]
  obtain ⟨G, G', g1, g2, g3, g4, g5⟩ := o2
  obtain ⟨G1, G2, k1, k2, k3, k4, k5⟩ := g5
  exact ⟨G, G', g1, g2, g3, g4, G1, fun _ => False, k1, fun _ z => z.elim, fun _ _ z => z, k4, trivial⟩
theorem PFin_of {M : List (Gt × Option Nat)} (S : SS C B X t Γ H σ η M g h) (hg : g ≤ 5000) (hh : h ≤ 5000) : PFin C B X t Γ H (pF σ) M := by
  obtain ⟨⟨h0, h1, h2, ⟨KW, h3, h4⟩, h5, h6, h7⟩, L, E, hO, hg1, hh1, h8⟩ := S
  have cr := crV_0 (eV η) (fun v q => by have := h0.2.2.2.2.2.2.1.2.2 v q; exact ⟨this.2.1, this.2.2⟩)
  have hi := h2.2.2.2.1
  have hi1 : (if (pk σ).1 = 6 then 1 else 0) ≤ 1 := by split <;> omega
  exact ⟨η, _, pi' σ, KW, PBi_of h0, h2, h3, by omega, L, E, hO, by omega, by omega⟩
/-- a val under way is taken for whole -/
theorem PFin_v {v : Ve} {M : List (Gt × Option Nat)} (S : SS C B X t Γ H σ η M g h) (hV : eV η = [v]) (hn : v.2.2.2.2.2 = ynx Γ.1) (hg : g ≤ 5000) (hh : h ≤ 5000) : PFin C B X t Γ H (pF σ) ((veT v, some v.1) :: (oC v.2.2.2.1.1 v.2.2.1.1, some v.2.2.2.2.1.1) :: (oC v.2.2.2.1.2 v.2.2.1.2, some v.2.2.2.2.1.2) :: M) := by
  obtain ⟨⟨h0, h1, h2, ⟨KW, h3, h4⟩, h5, h6, h7⟩, L, E, hO, hg1, hh1, h8⟩ := S
  have cr := crV_0 (eV η) (fun v q => by have := h0.2.2.2.2.2.2.1.2.2 v q; exact ⟨this.2.1, this.2.2⟩)
  have hi := h2.2.2.2.1
  have hi1 : (if (pk σ).1 = 6 then 1 else 0) ≤ 1 := by split <;> omega
  obtain ⟨O2, o1, o2⟩ := h0.2.2.2.2.2.2.2
  unfold ovM at o2
  rw [hV] at o2
  obtain ⟨G, G', g1, g2, g3, g4, g5⟩ := o2
  obtain ⟨G1, G2, k1, k2, k3, k4, k5⟩ := g5
  have hE : ([v].flatMap veM) = [(oW (ynx Γ.1) (veT v), some v.1), (oW (ynx Γ.1) (oC v.2.2.2.1.1 v.2.2.1.1), some v.2.2.2.2.1.1), (oW (ynx Γ.1) (oC v.2.2.2.1.2 v.2.2.1.2), some v.2.2.2.2.1.2)] := by
    show veM v ++ [] = _
    rw [List.append_nil]; unfold veM; rw [hn]
  have k5 : sep G2 (([v].flatMap veM).map fun q => (YO C B H q.1, q.2)) := k5
  rw [hE] at k5
  obtain ⟨A1, A1', a1, a2, a3, a4, B1, B1', b1, b2, b3, b4, D1, D1', d1, d2, d3, d4, -⟩ := k5
  obtain ⟨A2, x1, x2, x3⟩ := YO_oW.mp a4
  obtain ⟨B2, y1, y2, y3⟩ := YO_oW.mp b4
  obtain ⟨D2, z1, z2, z3⟩ := YO_oW.mp d4
  obtain ⟨FL, l1, l2⟩ := L
  have inG2 : ∀ x, (A2 x ∨ B2 x ∨ D2 x) → G2 x := fun x w => w.elim (fun w => a1 x (x1 x w)) (fun w => w.elim (fun w => a2 x (b1 x (y1 x w))) (fun w => a2 x (b2 x (d1 x (z1 x w)))))
  have inO2 : ∀ x, (A2 x ∨ B2 x ∨ D2 x) → O2 x := fun x w => g2 x (k2 x (inG2 x w))
  have ge : ∀ x, (A2 x ∨ B2 x ∨ D2 x) → ynx Γ.1 ≤ x := fun x w => w.elim (x2 x) (fun w => w.elim (y2 x) (z2 x))
  have hOn := h0.1.1
  refine ⟨(fun x => eO η x ∧ ¬ (A2 x ∨ B2 x ∨ D2 x), η.2), [v.1], pi' σ, KW, ⟨⟨fun x q => hOn x q.1, h0.1.2⟩, ⟨fun x q => ⟨h0.2.1.1 x q, fun w => (o1 x (inO2 x w)).2.1 q⟩, ⟨h0.2.1.2.1, fun w => (o1 _ (inO2 _ w)).2.2.1 rfl⟩, ⟨h0.2.1.2.2.1, fun w => (o1 _ (inO2 _ w)).2.2.2.1 rfl⟩, ⟨h0.2.1.2.2.2.1, fun w => (o1 _ (inO2 _ w)).2.2.2.2.1 rfl⟩, ⟨h0.2.1.2.2.2.2.1, fun w => (o1 _ (inO2 _ w)).2.2.2.2.2 rfl⟩, h0.2.1.2.2.2.2.2⟩, h0.2.2.1, h0.2.2.2.2.1, h0.2.2.2.2.2.1, h0.2.2.2.2.2.2.1.1, h0.2.2.2.2.2.2.1.2.1, fun x => G x ∨ G1 x, fun x q => ⟨⟨(o1 x (q.elim (g1 x) (fun q => g2 x (k1 x q)))).1, fun w => q.elim (fun q => g3 x q (k2 x (inG2 x w))) (fun q => k3 x q (inG2 x w))⟩, (o1 x (q.elim (g1 x) (fun q => g2 x (k1 x q)))).2⟩, G, G1, fun x q => Or.inl q, fun x q => Or.inr q, fun x q w => g3 x q (k1 x w), g4, G1, fun _ => False, fun _ q => q, fun _ q => q.elim, fun _ _ q => q, k4, trivial⟩, h2, h3, by omega, ⟨fun x => FL x ∨ (A2 x ∨ B2 x ∨ D2 x), fun x q => q.elim (fun q => ⟨(l1 x q).1, (l1 x q).2.1, fun w => (l1 x q).2.2 w.1⟩) (fun q => ⟨ge x q, hOn x (o1 x (inO2 x q)).1, fun w => w.2 q⟩), A2, fun x => FL x ∨ (B2 x ∨ D2 x), fun x q => Or.inr (Or.inl q), fun x q => q.elim Or.inl (fun q => Or.inr (Or.inr q)), fun x q w => w.elim (fun w => (l1 x w).2.2 (o1 x (inO2 x (Or.inl q))).1) (fun w => a3 x (x1 x q) (w.elim (fun w => b1 x (y1 x w)) (fun w => b2 x (d1 x (z1 x w))))), x3, B2, fun x => FL x ∨ D2 x, fun x q => Or.inr (Or.inl q), fun x q => q.elim Or.inl (fun q => Or.inr (Or.inr q)), fun x q w => w.elim (fun w => (l1 x w).2.2 (o1 x (inO2 x (Or.inr (Or.inl q)))).1) (fun w => b3 x (y1 x q) (d1 x (z1 x w))), y3, D2, FL, fun x q => Or.inr q, fun x q => Or.inl q, fun x q w => (l1 x w).2.2 (o1 x (inO2 x (Or.inr (Or.inr q)))).1, z3, l2⟩, E, fun x q w => hO x q w.1, by omega, ?_⟩
  show (ysl H : Int) + _ ≤ _ + 4 * ((ec η : Int) + es η + ev η) + _
  omega
variable {N : Nat} {O : Nat → Prop} {w : Option Nat} {θ : Gt} {M M' : List (Gt × Option Nat)}
theorem Lw_nest {kd f b : Nat} {p : List Int} (s1 : List Gt) {s2 : List Gt} (hkd : kd < 100) (S : Lv C B N O H ((gn kd [p] (s1 ++ oF f (oA b) :: s2), w) :: (θ, some b) :: M)) : Lv C B N O H ((gn kd [p] (s1 ++ oF f θ :: s2), w) :: M) := by
  obtain ⟨F, h1, G, F1, g1, g2, g3, g4, G2, F2, k1, k2, k3, k4, k5⟩ := S
  have g4 : YO C B H (gn kd [p] (s1 ++ oF f (oA b) :: s2)) G w := g4
  rw [YO_gn] at g4
  unfold hoA at g4
  rw [if_pos hkd] at g4
  obtain ⟨a, ha, q1, q2, q3, q4, q5⟩ := g4
  rw [List.map_map, List.map_append] at q5
  obtain ⟨A1, A2, r1, r2, r3, r4, E1, E2, e1, e2, e3, e4, e5⟩ := sep_app.mp q5
  have e4 : YO C B H (oF f (oA b)) E1 (yR H (200 + f - 200) a) := e4
  rw [Nat.add_sub_cancel_left] at e4
  have hb := YO_oA.mp (YO_oF.mp e4)
  refine ⟨F, h1, fun x => G x ∨ G2 x, F2, fun x z => z.elim (g1 x) (fun z => g2 x (k1 x z)), fun x z => g2 x (k2 x z), fun x z y => z.elim (fun z => g3 x z (k2 x y)) (fun z => k3 x z y), ?_, k5⟩
  show YO C B H (gn kd [p] _) _ w
  rw [YO_gn]
  unfold hoA
  rw [if_pos hkd]
  refine ⟨a, ha, Or.inl q1, q2, q3, q4, ?_⟩
  rw [List.map_map, List.map_append]
  have na : ∀ x, G2 x → x ≠ a := fun x z y => g3 a q1 (k1 a (y ▸ z))
  refine sep_app.mpr ⟨A1, fun x => A2 x ∨ G2 x, fun x z => ⟨Or.inl (r1 x z).1, (r1 x z).2⟩, fun x z => z.elim (fun z => ⟨Or.inl (r2 x z).1, (r2 x z).2⟩) (fun z => ⟨Or.inr z, na x z⟩), fun x z y => y.elim (r3 x z) (fun y => g3 x (r1 x z).1 (k1 x y)), r4, fun x => G2 x, E2, fun x z => Or.inr z, fun x z => Or.inl (e2 x z), fun x z y => g3 x (r2 x (e2 x y)).1 (k1 x z), ?_, e5⟩
  show YO C B H (oF f θ) G2 (yR H (200 + f - 200) a)
  rw [Nat.add_sub_cancel_left, hb]
  exact YO_oF.mpr k4
theorem Lw_lnest {b : Nat} (l1 : List Gt) {l2 : List Gt} (S : Lv C B N O H ((oC cap (l1 ++ oA b :: l2), w) :: (θ, some b) :: M)) : Lv C B N O H ((oC cap (l1 ++ θ :: l2), w) :: M) := by
  obtain ⟨F, h1, G, F1, g1, g2, g3, g4, G2, F2, k1, k2, k3, k4, k5⟩ := S
  have g4 : YO C B H (oC cap (l1 ++ oA b :: l2)) G w := g4
  obtain ⟨a, e, xs, rfl, ga, A, ge, hl, q6⟩ := YO_lst' g4
  rw [List.length_append] at hl
  have hl : xs.length = l1.length + (l2.length + 1) := hl
  have hi : l1.length < xs.length := by omega
  have hxs : xs = xs.take l1.length ++ xs[l1.length] :: xs.drop (l1.length + 1) := by
    rw [← List.drop_eq_getElem_cons hi, List.take_append_drop]
  have ht : (l1.map (YO C B H)).length = (xs.take l1.length).length := by rw [List.length_map, List.length_take]; omega
  have hz : ∀ y, List.zip ((l1 ++ y :: l2).map (YO C B H)) xs = List.zip (l1.map (YO C B H)) (xs.take l1.length) ++ (YO C B H y, xs[l1.length]) :: List.zip (l2.map (YO C B H)) (xs.drop (l1.length + 1)) := by
    intro y
    conv => lhs; rw [hxs]
    rw [List.map_append, List.zip_append ht]; rfl
  rw [hz] at q6
  obtain ⟨A1, A2, r1, r2, r3, r4, E1, E2, e1, e2, e3, e4, e5⟩ := sep_app.mp q6
  have e4 : YO C B H (oA b) E1 xs[l1.length] := e4
  have hb : xs[l1.length] = some b := YO_oA.mp e4
  have na : ∀ x, G2 x → x ≠ a ∧ x ≠ e := by
    refine fun x z => ⟨fun y => g3 a ga (k1 a (y ▸ z)), fun y => ?_⟩
    by_cases q : yK H e = 1005
    · exact g3 e (ge q) (k1 e (y ▸ z))
    · have q7 := A.2.2.2.2.2.2.1
      have := A.2.2.2.2.2.2.2.2.1
      omega
  refine ⟨F, h1, fun x => G x ∨ G2 x, F2, fun x z => z.elim (g1 x) (fun z => g2 x (k1 x z)), fun x z => g2 x (k2 x z), fun x z y => z.elim (fun z => g3 x z (k2 x y)) (fun z => k3 x z y), YO_lst (Or.inl ga) A (fun q => Or.inl (ge q)) (by rw [List.length_append]; exact hl) ?_, k5⟩
  rw [hz]
  refine sep_app.mpr ⟨A1, fun x => A2 x ∨ G2 x, fun x z => ⟨Or.inl (r1 x z).1, (r1 x z).2⟩, fun x z => z.elim (fun z => ⟨Or.inl (r2 x z).1, (r2 x z).2⟩) (fun z => ⟨Or.inr z, na x z⟩), fun x z y => y.elim (r3 x z) (fun y => g3 x (r1 x z).1 (k1 x y)), r4, fun x => G2 x, E2, fun x z => Or.inr z, fun x z => Or.inl (e2 x z), fun x z y => g3 x (r2 x (e2 x y)).1 (k1 x z), ?_, e5⟩
  show YO C B H θ G2 xs[l1.length]
  rw [hb]
  exact k4
theorem Lw_perm {M' : List (Gt × Option Nat)} (hp : M.Perm M') (S : Lv C B N O H M) : Lv C B N O H M' := by
  obtain ⟨F, h1, h2⟩ := S
  exact ⟨F, h1, sep_perm (hp.map _) h2⟩
theorem Lw_pk (n : Nat) (js : List Nat) (h1 : js.isPerm (List.range n) = true) (h2 : (M.take n).length = n) (S : Lv C B N O H M) : Lv C B N O H ((js.map fun j => (M.take n).getD j (oN, none)) ++ M.drop n) := by
  refine Lw_perm ?_ S
  have h3 := pick_perm (oN, none) js (M.take n) (by rw [h2]; exact List.isPerm_iff.mp h1)
  have h4 := (h3.append_right (M.drop n)).symm
  rw [List.take_append_drop] at h4
  exact h4
theorem Lw_oL (S : Lv C B N O H ((oC cap l, w) :: M)) : Lv C B N O H ((oL l, w) :: M) := by
  obtain ⟨F, h1, G, F1, g1, g2, g3, g4, g5⟩ := S
  exact ⟨F, h1, G, F1, g1, g2, g3, YO_oL g4, g5⟩
theorem decs_gl {t : List Int} : ∀ (n : Nat) {x : Int} {σ : Ps} {τ : Gt} {σ1 : Ps}, sP t n 40 [x] [] σ = some (.inr (τ, σ1)) → τ = gl (gs τ)
  | 0, _, _, _, _, h => by cases h
  | n + 1, x, σ, τ, σ1, h => by
    have h : gDecs t x (sP t n) σ = some (.inr (τ, σ1)) := h
    have cs : ∀ {y : Gt} {σ2 : Ps}, cons1 y (sP t n 40 [x] [] σ2) = some (.inr (τ, σ1)) → τ = gl (gs τ) := by
      intro y σ2 h
      unfold cons1 at h
      cases hc : sP t n 40 [x] [] σ2 with
      | none => rw [hc] at h; cases h
      | some w =>
        rw [hc] at h
        match w, h with
        | .inr (l, σ4), h => cases h; rw [gs_gl]
    unfold gDecs at h
    cases h1 : sP t n 41 [] [] σ with
    | none => rw [h1] at h; cases h
    | some w =>
      rw [h1] at h
      match w, h with
      | .inr (y, σ2), h =>
        have h : (if pIs σ2 35 ∧ (x = 0 ∨ tDec (pk σ2)) then pT (pPass t σ2) fun σ3 => if tDec (pc σ3) then cons1 y (sP t n 40 [x] [] σ3) else pWr σ3 else if tDec (pc σ2) then cons1 y (sP t n 40 [x] [] σ2) else pR (gl [y]) σ2) = some (.inr (τ, σ1)) := h
        split at h
        · cases hp : pPass t σ2 with
          | inl e => rw [hp] at h; cases h
          | inr σ3 =>
            rw [hp] at h
            have h : (if tDec (pc σ3) then cons1 y (sP t n 40 [x] [] σ3) else pWr σ3) = some (.inr (τ, σ1)) := h
            split at h
            · exact cs h
            · cases h
        · split at h
          · exact cs h
          · cases h
            rw [gs_gl]
theorem decs_gl' {n : Nat} {x : Int} {K : Gt → Ps → PR} : pB (sP t n 40 [x] [] σ) K = pB (sP t n 40 [x] [] σ) (fun τ σ1 => K (gl (gs τ)) σ1) := by
  cases h : sP t n 40 [x] [] σ with
  | none => rfl
  | some w =>
    match w, h with
    | .inl e, h => rfl
    | .inr (τ, σ1), h => show K τ σ1 = K (gl (gs τ)) σ1; rw [← decs_gl n h]
/-- a val without rec, its parts all at hand -/
theorem fin_70 {x y1 y2 a l3 l4 c1 c2 c3 c4 cx : Nat} {p e : Gt} (hL : Lv C B N O H ((oO 24 [7206, 0] [oF 7200 (oA y1), oF 7201 (oA y2), oF 7204 (oA l3), oF 7205 (oA l4)], some x) :: (oC c1 (gms false [gn 78 [] [p, e]]), some y1) :: (oC c2 (gms true [gn 78 [] [p, e]]), some y2) :: (oC cx [oA x], some a) :: (oC c3 [ho p], some l3) :: (oC c4 [ho e], some l4) :: M)) : Lv C B N O H ((ho (gn 63 [] [gn 70 [] [gn 78 [] [p, e]]]), some a) :: M) := by
  have L1 := Lw_oL (Lw_pk 2 [1, 0] rfl rfl hL)
  have L2 := Lw_nest [] (by decide) (Lw_pk 2 [1, 0] rfl rfl L1)
  have L3 := Lw_oL (Lw_pk 2 [1, 0] rfl rfl L2)
  have L4 := Lw_nest [oF 7200 (oL (gms false [gn 78 [] [p, e]]))] (by decide) (Lw_pk 2 [1, 0] rfl rfl L3)
  have L5 := Lw_oL (Lw_pk 3 [2, 0, 1] rfl rfl L4)
  have L6 := Lw_nest [oF 7200 (oL (gms false [gn 78 [] [p, e]])), oF 7201 (oL (gms true [gn 78 [] [p, e]]))] (by decide) (Lw_pk 3 [1, 0, 2] rfl rfl L5)
  have L7 := Lw_oL (Lw_pk 3 [2, 0, 1] rfl rfl L6)
  have L8 := Lw_nest [oF 7200 (oL (gms false [gn 78 [] [p, e]])), oF 7201 (oL (gms true [gn 78 [] [p, e]])), oF 7204 (oL [ho p])] (by decide) (Lw_pk 3 [1, 0, 2] rfl rfl L7)
  have L9 := Lw_lnest [] (Lw_pk 2 [1, 0] rfl rfl L8)
  rw [ho_63, dsF_1 (x := gn 70 [] [gn 78 [] [p, e]]) (show (70 : Nat) ≠ 83 by decide), ho_70 (Or.inl rfl)]
  have e1 : [gn 78 [] [p, e]].map bP = [ho p] := by show [bP (gn 78 [] [p, e])] = _; rw [bP_78]
  have e2 : [gn 78 [] [p, e]].map bE = [ho e] := by show [bE (gn 78 [] [p, e])] = _; rw [bE_78]
  rw [e1, e2]
  exact Lw_oL L9
noncomputable abbrev kInp (C : YC) (X : Nat → Nat) (d : Nat) (H : YS) : ZR YS :=
    ygR 1804 (some (X 8)) H fun v2 =>
    zI (zc (YL C) d 102 [.inr (.inr v2)] H) fun v4 h3 =>
    if v4 = 0 then
      ynew 5 3 h3 fun r5 h6 =>
      zV (ycs (YL C) d 503 r5 [] h6) fun h7 =>
      zlet r5 fun x1_8 =>
      ynew 24 7 h7 fun r9 h10 =>
      zV (ycs (YL C) d 324 r9 [] h10) fun h11 =>
      zlet r9 fun x2_12 =>
      ygR 1803 (some (X 8)) h11 fun v13 =>
      zI (ycv (YL C) d [(5, 505)] v13 [.inr (.inr x2_12)] h11) fun v15 h14 =>
      ygR 1804 (some (X 8)) h14 fun v16 =>
      ygI 6601 v16 h14 fun v17 =>
      zlet v17 fun x3_18 =>
      ygR 7205 x2_12 h14 fun v19 =>
      zQ (ycv (YL C) d [(6, 140)] (some (X 8)) [] h14) fun v21 h20 =>
      zI (ycv (YL C) d [(5, 505)] v19 [.inr (.inr v21)] h20) fun v23 h22 =>
      ygR 7204 x2_12 h22 fun v24 =>
      ynew 33 6 h22 fun r25 h26 =>
      zV (ycs (YL C) d 353 r25 [.inr (.inr (some (C.1 147))), .inl x3_18, .inl x3_18, .inl 0] h26) fun h27 =>
      zI (ycv (YL C) d [(5, 505)] v24 [.inr (.inr r25)] h27) fun v29 h28 =>
      zI (ycv (YL C) d [(5, 505)] x1_8 [.inr (.inr x2_12)] h28) fun v31 h30 =>
      YL C d 790 [.inr (.inr (some (X 8))), .inr (.inr x1_8)] h30
    else
    zQ (ycv (YL C) d [(6, 103)] (some (X 8)) [.inl 1] h3) fun v33 h32 =>
    zlet v33 fun x1_34 =>
    YL C d 790 [.inr (.inr (some (X 8))), .inr (.inr x1_34)] h32
theorem gms_78 {b : Bool} {q : List (List Int)} {e : Gt} : gms b [gn 78 [] [gn 31 q [], e]] = gms b [e] := by
  rw [gms_1, gmn_tr (by decide)]
  show gms b ([gn 31 q []] ++ [e]) = _
  rw [gms_app, gms_1, gmn_tr (by decide)]; rfl
theorem e147 : cstr 147 = gIt := by decide
theorem y_inBody {n : Nat} (h0 : YCf C B X t (sP t n 0 [] []) 140 10 ho okEx) (h41 : ∀ n', n' < n → YDc C B X t (sP t n' 41 [] [])) (hlen : t.length ≤ 900) (S : SS C B X t Γ H σ η [] g h) (hu : Γ.2.2.2.2 = 0) (hV0 : eV η = []) (hg : g ≤ 2900) (hh : h ≤ 2700) (hd : dep t σ + 40 ≤ d) (he : gInput t (sP t n) σ = some r) (her : ∀ e p H', r = .inl (e, p) → Th C B X t Γ H' e p → Q none H')
    (hk : ∀ τ σ1 H1 a, r = .inr (τ, σ1) → PFin C B X t Γ H1 (pF σ1) [(ho (gn 63 [] (gs τ)), some a)] → Q (some (some (.inr (.inr (some a))))) H1) : zW (kInp C X d H) Q := by
  have d40 := dep_40 S
  have hvl : (eV η).length ≤ pd σ := by rw [hV0]; exact Nat.zero_le _
  have e0 := SS_et0 S hu
  have lz : ([] : List Gt).length = 0 := rfl
  unfold gInput at he
  simp only [pB_pT, pB_ite, pB_pR, pB_pWr, pB_in, pB_ass, pB_pNeed, pB_pOpens, pB_pCloses, pB_pName, pB_pAny, pB_pOpn, pB_pLab, gs_gl, cons1] at he
  unfold kInp
  refine zW_isDc (by omega) S (fun u1 => ?_) (fun u1 => ?_)
  · refine zW_f (by decide) ?_
    rw [if_pos u1] at he
    rw [decs_gl'] at he
    have he : pB (if tDec (pc σ) then sP t n 40 [1] [] σ else pR (gl []) σ) (fun τ σ1 => (fun l σ1 => if pIs σ1 35 then pT (pPass t σ1) fun σ2 => if (pc σ2).1 = 6 then pR (gl l) σ2 else pWr σ2 else if (pc σ1).1 = 6 then pR (gl l) σ1 else pWr σ1) (gs τ) σ1) = some r := by rw [if_pos u1]; exact he
    refine zW_decs (fG := fun l σ1 => if pIs σ1 35 then pT (pPass t σ1) fun σ2 => if (pc σ2).1 = 6 then pR (gl l) σ2 else pWr σ2 else if (pc σ1).1 = 6 then pR (gl l) σ1 else pWr σ1) (x := 1) h41 hlen (by omega) S hu (by omega) (by omega) (by omega) he her (fun l2 σ2 H2 η2 a2 S2 q2 e2 he => ?_)
    have m2 := q2.2.2.1
    have d2 := dep_y q2
    have vn2 := Er_len e2
    have vd2 := q2.1
    refine zW_let ?_
    refine yl_Parser_input_p156 ?_
    unfold yb_Parser_input_p156
    refine zW_takesK 35 140 (by decide) (by omega) S2 (by omega) (by omega) he her (fun u3 he => ?_) (fun u3 σ3 H3 η3 S3 p3 w3 he => ?_)
    · refine zW_kd 6 3 (by decide) rfl S2 (fun u4 => ?_) (fun u4 => ?_)
      · have u6 : (pc σ2).1 = 6 := u4
        rw [if_pos u6] at he
        refine zW_rQ (hk _ σ2 H2 _ (Option.some.inj he).symm ?_)
        rw [gs_gl]
        exact PFin_of S2 (by omega) (by omega)
      · have u6 : (pc σ2).1 ≠ 6 := u4
        rw [if_neg u6] at he
        exact zW_wr (by omega) S2 (by omega) (by omega) he her
    · have q3 := Qx_p p3
      have m3 := q3.2.2.1
      have d3 := dep_le q3
      have vn3 := congrArg List.length w3.2
      have vd3 := q3.1
      refine zW_kd 6 3 (by decide) rfl S3 (fun u5 => ?_) (fun u5 => ?_)
      · have u6 : (pc σ3).1 = 6 := u5
        rw [if_pos u6] at he
        refine zW_rQ (hk _ σ3 H3 _ (Option.some.inj he).symm ?_)
        rw [gs_gl]
        exact PFin_of S3 (by omega) (by omega)
      · have u6 : (pc σ3).1 ≠ 6 := u5
        rw [if_neg u6] at he
        exact zW_wr (by omega) S3 (by omega) (by omega) he her
  · refine zW_t rfl ?_
    rw [if_neg u1] at he
    refine zW_alnew (by omega) S (fun H6 l6 S6 => ?_)
    refine zW_let ?_
    have S7 := SS_new (kd := 24) (n := 7) (p := [7206, 0]) S6 (by decide) ⟨by show yI _ 7206 _ = 0; rw [ymk_I, if_pos rfl], trivial⟩
    refine zW_new ?_
    rw [if_neg (show ¬ (24 : Nat) = 3 by decide)]
    refine m_ValDec (by omega) S7 (fun H8 l1 l2 l3 l4 S8 => ?_)
    refine zW_let ?_
    refine zW_openI (fs := [oF 7204 (oA l3), oF 7205 (oA l4)]) (by omega) (Or.inl rfl) (by omega) S8 (fun H9 O9 cap9 S9 => ?_)
    refine zW_plc S9 ?_
    refine zW_let ?_
    refine zW_gV (s1 := [oF 7204 (oA l3)]) (by exact rfl) (by exact (show yokF 7205 24 = true by decide)) rfl S9 ?_
    refine zW_sub h0 (by omega) S9 hu (by omega) (by omega) he her (fun t10 σ10 H10 η10 ro10 S10 o10 q10 e10 he => ?_)
    have m10 := q10.2.2.1
    have d10 := dep_le q10
    have vn10 := Er_len e10
    have vd10 := q10.1
    have S12 := SS_pk 3 [2, 0, 1] rfl rfl S10
    refine zW_add (by omega) (by omega) (okX_G o10) S12 (fun H11 c11 S11 f11 f11' => ?_)
    obtain ⟨v1, hV1, z1, z2, z3, z4, z5⟩ := Er_top e10 rfl
    have z2' : v1.2.1 = (24, [7206, 0], [oF 7204 (oA l3), oF 7205 (oA l4)]) := z2
    have hV1' : eV η10 = [v1] := by rw [hV1, hV0]
    have z1 : v1.1 = (ynx H6) := z1
    rw [← z1]
    refine zW_gV (s1 := []) hV1 (by rw [z2']; exact (show yokF 7204 24 = true by decide)) (by rw [z2']; rfl) S11 ?_
    have S13 := SS_new (kd := 33) (n := 6) (p := []) S11 (by decide) trivial
    refine zW_new ?_
    rw [if_neg (show ¬ (33 : Nat) = 3 by decide)]
    have S14 := SS_cst 147 (by decide) S13
    have S15 := SS_pk 2 [1, 0] rfl rfl S14
    refine m_NamePat (by omega) (by omega) S15 (fun H16 S16 => ?_)
    have S18 := SS_pk 3 [2, 0, 1] rfl rfl S16
    refine zW_add (by omega) (by omega) (okO (by decide)) S18 (fun H17 c17 S17 f17 f17' => ?_)
    have S19 := SS_eq0 (l' := [ho (gn 31 [[((pc σ).2.1 : Int), ((pc σ).2.1 : Int), 0], gIt] [])]) (by rw [ho_gn, e147]; rfl) S17
    have S20 := SS_oA (a := v1.1) S19
    have S21 := SS_pk 4 [3, 0, 1, 2] rfl rfl S20
    obtain ⟨tp1, tp2, -⟩ := SS_top S21 hV1
    refine zW_addW (by omega) (by omega) (fun x hx => by cases hx; exact ⟨tp1, by rw [tp2, z2']; exact yokE_72 24 (by decide)⟩) S21 (fun H22 c22 S22 f22 f22' => ?_)
    refine yl_Parser_input_p156 ?_
    unfold yb_Parser_input_p156
    refine zW_takesK 35 140 (by decide) (by omega) S22 (by omega) (by omega) he her (fun u23 he => ?_) (fun u23 σ23 H23 η23 S23 p23 w23 he => ?_)
    · refine zW_kd 6 3 (by decide) rfl S22 (fun u24 => ?_) (fun u24 => ?_)
      · have u6 : (pc σ10).1 = 6 := u24
        rw [if_pos u6] at he
        have hV2 : eV η10 = [v1] := by
          exact hV1'
        refine zW_rQ (hk _ σ10 H22 _ (Option.some.inj he).symm ?_)
        have P := PFin_v S22 hV2 (by rw [z5]) (by omega) (by omega)
        obtain ⟨η7, L7, j7, KW7, p1, p2, p3, p4, p5, p6⟩ := P
        refine ⟨η7, L7, j7, KW7, p1, p2, p3, p4, ?_, p6⟩
        rw [gs_gl]
        unfold veT at p5
        have z3' : v1.2.2.1.1 = gms false [gn 78 [] [gn 31 [[((pc σ).2.1 : Int), ((pc σ).2.1 : Int), 0], gIt] [], t10]] := by rw [gms_78, z3]; show [] ++ mt (et η) _ = _; rw [e0]; rfl
        have z4' : v1.2.2.1.2 = gms true [gn 78 [] [gn 31 [[((pc σ).2.1 : Int), ((pc σ).2.1 : Int), 0], gIt] [], t10]] := by rw [gms_78, z4]; show [] ++ mt (et η) _ = _; rw [e0]; rfl
        rw [z2', z3', z4'] at p5
        exact fin_70 (p := gn 31 [[((pc σ).2.1 : Int), ((pc σ).2.1 : Int), 0], gIt] []) (e := t10) p5
        -- 001
      · have u6 : (pc σ10).1 ≠ 6 := u24
        rw [if_neg u6] at he
        exact zW_wr (by omega) S22 (by omega) (by omega) he her
    · have q23 := Qx_p p23
      have m23 := q23.2.2.1
      have d23 := dep_le q23
      have vn23 := congrArg List.length w23.2
      have vd23 := q23.1
      refine zW_kd 6 3 (by decide) rfl S23 (fun u25 => ?_) (fun u25 => ?_)
      · have u6 : (pc σ23).1 = 6 := u25
        rw [if_pos u6] at he
        have hV2 : eV η23 = [v1] := by
          rw [w23.2]; exact hV1'
        refine zW_rQ (hk _ σ23 H23 _ (Option.some.inj he).symm ?_)
        have P := PFin_v S23 hV2 (by rw [z5]) (by omega) (by omega)
        obtain ⟨η7, L7, j7, KW7, p1, p2, p3, p4, p5, p6⟩ := P
        refine ⟨η7, L7, j7, KW7, p1, p2, p3, p4, ?_, p6⟩
        rw [gs_gl]
        unfold veT at p5
        have z3' : v1.2.2.1.1 = gms false [gn 78 [] [gn 31 [[((pc σ).2.1 : Int), ((pc σ).2.1 : Int), 0], gIt] [], t10]] := by rw [gms_78, z3]; show [] ++ mt (et η) _ = _; rw [e0]; rfl
        have z4' : v1.2.2.1.2 = gms true [gn 78 [] [gn 31 [[((pc σ).2.1 : Int), ((pc σ).2.1 : Int), 0], gIt] [], t10]] := by rw [gms_78, z4]; show [] ++ mt (et η) _ = _; rw [e0]; rfl
        rw [z2', z3', z4'] at p5
        exact fin_70 (p := gn 31 [[((pc σ).2.1 : Int), ((pc σ).2.1 : Int), 0], gIt] []) (e := t10) p5
        -- 011
      · have u6 : (pc σ23).1 ≠ 6 := u25
        rw [if_neg u6] at he
        exact zW_wr (by omega) S23 (by omega) (by omega) he her
end YInp
