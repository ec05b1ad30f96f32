set_option maxRecDepth 100000
/-! THE HOUSE'S PARSER: infix names between operands (printed by gen/dsl/p74v.py) -/
def YIn (C : YC) (B : Nat → Prop) (X : Nat → Nat) (t : List Int) (fs : List Gt → List Gt → Ps → PR) (lev Bk : Nat) (st : List (List Int × Int × Int) → Tok → Option (Int × Int)) (okr : Gt → Prop) : Prop :=
  ∀ (Γ : Gm) (H : YS) (σ : Ps) (η : Et) (M : List (Gt × Option Nat)) (g h : Int) (d : Nat) (Q : Option (Option ZV) → YS → Prop) (r : (Int × Nat) ⊕ (Gt × Ps)) (cx co lx lo : Nat) (x : List Gt) (cs : List Tok) (m : Nat), SS C B X t Γ H σ η ((oC cx (x.reverse.map ho), some lx) :: (oC co (cs.reverse.map tkT), some lo) :: M) g h → Γ.2.2.2.2 = 0 → g + 30 * cs.length ≤ 3000 → h + 72 + 16 * m + 140 * cs.length ≤ 3080 + 4 * cx + 4 * co → x.length = cs.length + 1 → cs.length ≤ m ∧ cx ≤ 10 + 2 * m ∧ co ≤ 8 + 2 * m → m + pmu t σ ≤ 999 → (∀ τ ∈ x, okr τ) → (∀ c ∈ cs, c.1 ≤ 6 ∧ c.2.2.1.length ≤ 200 ∧ st (pF σ) c ≠ none) → dep t σ + lev ≤ d → fs x (cs.map (gopF (pF σ))) σ = some r →
    (∀ e p H', r = .inl (e, p) → Th C B X t Γ H' e p → Q none H') →
    (∀ τ σ1 H1 η1 ro (k : Nat) l, r = .inr (τ, σ1) → SS C B X t Γ H1 σ1 η1 ((ho τ, ro) :: M) (g + 30 * cs.length - 8 * k) (h + 72 + 16 * m + 140 * cs.length - 4 * cx - 4 * co - 104 * k) → okr τ → Qx t 0 0 σ σ1 → Er η η1 l → (∀ c, gmn c τ = gms c x.reverse ++ gms c l) → (st (pF σ) (pc σ) ≠ none → 1 ≤ k) → Q (some (some (.inr (.inr ro)))) H1) → zW (YL C d Bk [zr (X 8), zr lx, zr lo] H) Q
def gI2 (t : List Int) (p : Int) (R : PX) (σ : Ps) (s r : Int) (y : Option (List Gt × List Gt)) : PR := match y with
  | none => pWr σ
  | some (x1, o1) => pT (pPass t σ) fun σ1 => pB (R (if p = 0 then 11 else 24) [] [] σ1) fun b σ2 => R 10 [p] [gl (b :: x1), gl (gop (pc σ) s r :: o1)] σ2
theorem pIx_6 {F : List (List Int × Int × Int)} {c : Tok} (h : pIx F c ≠ none) : c.1 ≠ 6 := by
  intro q
  refine h ?_
  unfold pIx
  rw [if_neg (fun z => by have := z.1; omega)]
  unfold pSt
  rw [if_neg (by omega)]
theorem rvm_ne {α : Type} {f : α → Gt} {y : α} {l : List α} : (y :: l).reverse.map f ≠ [] := by rw [rvm]; exact List.append_ne_nil_of_right_ne_nil _ (List.cons_ne_nil _ _)
theorem gms_2 {b : Bool} {x y : Gt} : gms b [x, y] = gmn b x ++ gmn b y := by
  unfold gms
  show gmn b x ++ (gmn b y ++ []) = _
  rw [List.append_nil]
theorem pIx_Se {F : List (List Int × Int × Int)} {c : Tok} (h : pSt F c ≠ none) : pIx F c ≠ none := by rw [pIx_St h]; exact h
theorem gms_rv {b : Bool} {y : Gt} {l : List Gt} : gms b (y :: l).reverse = gms b l.reverse ++ gmn b y := by rw [List.reverse_cons, gms_app, gms_1]
abbrev okRP : Gt → Prop := fun τ => 30 ≤ gk τ ∧ gk τ ≤ 41
abbrev okRX : Gt → Prop := fun τ => (3 ≤ gk τ ∧ gk τ ≤ 20) ∨ (90 ≤ gk τ ∧ gk τ ≤ 92)
theorem okT_ll {α : Type} {x : List α} {cs : List Tok} (h : x.length = cs.length + 1) {c : Tok} {cs' : List Tok} (hc : cs = c :: cs') : ∃ b a x', x = b :: a :: x' ∧ x'.length = cs'.length := by
  subst hc
  match x, h with
  | b :: a :: x', h => exact ⟨b, a, x', rfl, by simpa using h⟩
theorem idR {F : List (List Int × Int × Int)} {c : Tok} (_ : pIx F c ≠ none) : pIx F c = pIx F c := rfl
section YInL
variable {C : YC} {B : Nat → Prop} {X : Nat → Nat} {t : List Int} {R : PX} {n : Nat}
theorem y_consPatLoop (hS : YCf C B X t (R 24 [] []) 112 8 ho okPa) (hL : YIn C B X t (fun x o => R 10 [1] [gl x, gl o]) 9 567 pSt okRP) : YIn C B X t (fun x o σ => gInfR t 1 R x o σ) 9 567 pSt okRP := by
  intro Γ H σ η M g h d Q r cx co lx lo x cs m S hu hg hh hx hm hl hax hac hd he her hk
  have d40 := dep_40 S
  have he : gInfR t 1 R x (cs.map (gopF (pF σ))) σ = some r := he
  unfold gInfR at he
  rw [show (if (1 : Int) = 0 then pIx (pF σ) (pc σ) else pSt (pF σ) (pc σ)) = pSt (pF σ) (pc σ) from if_neg (by decide)] at he
  refine yl_Parser_consPat_p40 ?_
  unfold yb_Parser_consPat_p40
  refine zW_str (by omega) S (fun u => ?_) (fun u => ?_)
  · rw [u] at he
    have he : pR ((gall 1 x (cs.map (gopF (pF σ)))).getD 0 (gl [])) σ = some r := he
    have hr := (Option.some.inj he).symm
    have all : ∀ (cs : List Tok) (x : List Gt) (H : YS) (g' h' : Int) (cx' : Nat), SS C B X t Γ H σ η ((oC cx' (x.reverse.map ho), some lx) :: (oC co (cs.reverse.map tkT), some lo) :: M) g' h' → x.length = cs.length + 1 → cs.length ≤ m → cx' ≤ 10 + 2 * m → (∀ τ ∈ x, okRP τ) → (∀ τ H1 ro, τ = (gall 1 x (cs.map (gopF (pF σ)))).getD 0 (gl []) → SS C B X t Γ H1 σ η ((ho τ, ro) :: M) (g' + 30 * cs.length) (h' + 40 + 8 * m - 4 * cx' + 140 * cs.length) → okRP τ → (∀ c, gmn c τ = gms c x.reverse) → Q (some (some (.inr (.inr ro)))) H1) → zW (YL C d 794 [zr (X 8), zr lx, zr lo] H) Q := by
      intro cs
      induction cs with
      | nil =>
        intro x H g' h' cx' S hx _ hc hax hk
        have S1 := SS_pk 2 [1, 0] rfl rfl S
        refine yl_Parser_consPat_p116 ?_
        unfold yb_Parser_consPat_p116
        refine zW_empty (by omega) S1 ?_
        refine zW_f (by decide) ?_
        match x, hx with
        | [a], _ =>
          have ha := hax a List.mem_cons_self
          refine zW_only (by omega) S (fun w S2 _ => ?_)
          obtain ⟨y, ka, i, fs, rfl, ka1, -, -, ka2, -⟩ := SS_P0 ha S2
          refine zW_cc ka1 (cc_P ka2) (zW_rQ (hk a H _ rfl (SS_mono (SS_drop (SS_up 1 S2 rfl)) ?_ ?_) ha (fun c => ?_)))
          · show _ ≤ g' + 30 * ((0 : Nat) : Int); omega
          · show _ ≤ h' + 40 + 8 * m - 4 * cx' + 140 * ((0 : Nat) : Int); omega
          · exact gms_1.symm
      | cons c cs ih =>
        intro x H g' h' cx' S hx hcm hc hax hk
        obtain ⟨b, a, x', rfl, hx'⟩ := okT_ll hx rfl
        have hcm : cs.length + 1 ≤ m := hcm
        have ha := hax a (List.mem_cons_of_mem _ List.mem_cons_self)
        have hb := hax b List.mem_cons_self
        have S1 := SS_pk 2 [1, 0] rfl rfl S
        refine yl_Parser_consPat_p116 ?_
        unfold yb_Parser_consPat_p116
        refine zW_empty (by omega) S1 ?_
        rw [if_neg (rvm_ne (f := tkT))]
        refine zW_t rfl (zW_consed (by omega) ha hb ⟨by omega, by omega⟩ S (fun H1 cx1 S2 c1 c2 => ?_))
        refine ih (gn 40 [[gbg a, (c.2.1 : Int)], c.2.2.1] [a, b] :: x') H1 _ _ cx1 S2 (by rw [List.length_cons, hx']) (by omega) (by omega) (fun τ hτ => ?_) (fun τ H2 ro e1 S3 o3 g3 => hk τ H2 ro e1 (SS_mono S3 ?_ ?_) o3 (fun c => ?_))
        · rcases List.mem_cons.mp hτ with rfl | hτ
          · exact ⟨(by decide : 30 ≤ 40), (by decide : 40 ≤ 41)⟩
          · exact hax τ (List.mem_cons_of_mem _ (List.mem_cons_of_mem _ hτ))
        · rw [List.length_cons]; omega
        · rw [List.length_cons]; omega
        · rw [g3 c, gms_rv, gms_rv, gms_rv, gmn_tr (by decide), List.append_assoc]
          show _ ++ (gmn c a ++ (gmn c b ++ [])) = _
          rw [List.append_nil]
    refine all cs x H g h cx S hx hm.1 hm.2.1 hax (fun τ H1 ro e1 S1 o1 g1 => hk τ σ H1 η ro 0 [] ?_ (SS_mono S1 (by omega) ?_) o1 Qx_0 (Er_1 ⟨rfl, rfl⟩) (fun c => ?_) (fun z => absurd u z))
    · rw [hr, e1]
    · omega
    · rw [g1 c]; exact (List.append_nil _).symm
  · obtain ⟨⟨s, rr⟩, hq⟩ := Option.ne_none_iff_exists'.mp u
    rw [hq] at he
    have he : gI2 t 1 R σ s rr (gahd 1 s rr x (cs.map (gopF (pF σ)))) = some r := he
    have hpq : pIx (pF σ) (pc σ) = some (s, rr) := by rw [pIx_St u]; exact hq
    have h6 : (pc σ).1 ≠ 6 := pIx_6 (by rw [hpq]; exact fun z => nomatch z)
    have htk := SS_tk S
    have push : ∀ (cs : List Tok) (x : List Gt) (H : YS) (g' h' : Int) (cx' : Nat), SS C B X t Γ H σ η ((oC cx' (x.reverse.map ho), some lx) :: (oC co (cs.reverse.map tkT), some lo) :: M) g' h' → x.length = cs.length + 1 → cs.length ≤ m → cx' ≤ 10 + 2 * m → (∀ τ ∈ x, okRP τ) → (∀ c ∈ cs, c.1 ≤ 6 ∧ c.2.2.1.length ≤ 200 ∧ pSt (pF σ) c ≠ none) → g' + 30 * cs.length ≤ 3000 → h' + 72 + 16 * m + 140 * cs.length ≤ 3080 + 4 * cx' + 4 * co → gI2 t 1 R σ s rr (some (x, cs.map (gopF (pF σ)))) = some r → (∀ τ σ1 H1 η1 ro (k : Nat) l, r = .inr (τ, σ1) → SS C B X t Γ H1 σ1 η1 ((ho τ, ro) :: M) (g' + 30 * cs.length - 8 * k) (h' + 72 + 16 * m + 140 * cs.length - 4 * cx' - 4 * co - 104 * k) → okRP τ → Qx t 0 0 σ σ1 → Er η η1 l → (∀ c, gmn c τ = gms c x.reverse ++ gms c l) → 1 ≤ k → Q (some (some (.inr (.inr ro)))) H1) → zW (YL C d 914 [zr (X 8), zr lx, zr lo] H) Q := by
      intro cs x H g' h' cx' S hx hcm hcx hax hac hg hh he hk
      have he : pT (pPass t σ) (fun σ1 => pB (R 24 [] [] σ1) fun b σ2 => R 10 [1] [gl (b :: x), gl (gop (pc σ) s rr :: cs.map (gopF (pF σ)))] σ2) = some r := he
      refine yl_Parser_consPat_p91 ?_
      unfold yb_Parser_consPat_p91
      refine zW_tok3 S (fun at' S1 => ?_)
      have S2 := SS_pk 3 [2, 0, 1] rfl rfl S1
      refine zW_add (by omega) (by omega) okT3 S2 (fun H1 co1 S3 f1 f2 => ?_)
      rw [rvl] at f2
      rw [← rvm] at S3
      refine zW_pass (by omega) S3 h6 (by omega) (by omega) he her (fun σ1 H2 η1 S4 p1 w1 he => ?_)
      have q1 := Qx_p p1
      have m1 := q1.2.2.1
      have dl1 := dep_le q1
      refine zW_sub hS (by omega) S4 hu (by omega) (by omega) he her (fun b σ2 H3 η2 ro S5 o2 q2 e2 he => ?_)
      have m2 := q2.2.2.1
      have dl2 := dep_le q2
      have hF : pF σ2 = pF σ := q2.2.1.trans q1.2.1
      have S6 := SS_pk 3 [2, 0, 1] rfl rfl S5
      refine zW_add (by omega) (by omega) (okP_G o2.1) S6 (fun H4 cx1 S7 f3 f4 => ?_)
      rw [rvl] at f4
      rw [← rvm] at S7
      have S8 := SS_pk 2 [0, 1] rfl rfl S7
      have he : (fun x o => R 10 [1] [gl x, gl o]) (b :: x) ((pc σ :: cs).map (gopF (pF σ2))) σ2 = some r := by
        show R 10 [1] [gl (b :: x), gl (gopF (pF σ2) (pc σ) :: cs.map (gopF (pF σ2)))] σ2 = some r
        rw [hF, show gopF (pF σ) (pc σ) = gop (pc σ) s rr by unfold gopF; rw [hpq]; rfl]
        exact he
      refine hL Γ H4 σ2 η2 M _ _ d Q r cx1 co1 lx lo (b :: x) (pc σ :: cs) (m + 1) S8 hu (by rw [List.length_cons]; omega) (by rw [List.length_cons]; omega) (by rw [List.length_cons, List.length_cons, hx]) ⟨by rw [List.length_cons]; omega, by omega, by omega⟩ (by omega) (fun τ hτ => ?_) (fun c hc => ?_) (by omega) he her (fun τ σ3 H5 η3 ro3 k l e3 S9 o3 q3 e4 g4 _ => hk τ σ3 H5 η3 ro3 (k + 1) (b :: l) e3 (SS_mono S9 ?_ ?_) o3 (Qx_to (Qx_t q1 (Qx_t q2 q3)) (by omega) (by omega)) (Er_t (Er_o w1 e2) e4) (fun c => ?_) (by omega))
      · rcases List.mem_cons.mp hτ with rfl | hτ
        · exact o2.1
        · exact hax τ hτ
      · rcases List.mem_cons.mp hc with rfl | hc
        · exact ⟨htk.1, htk.2.2.1, by rw [hF]; exact u⟩
        · rw [hF]; exact hac c hc
      · rw [List.length_cons]; omega
      · rw [List.length_cons]; omega
      · rw [g4 c, gms_rv, List.append_assoc]; rfl
    have ahd : ∀ (cs : List Tok) (x : List Gt) (H : YS) (g' h' : Int) (cx' : Nat), SS C B X t Γ H σ η ((oC cx' (x.reverse.map ho), some lx) :: (oC co (cs.reverse.map tkT), some lo) :: M) g' h' → x.length = cs.length + 1 → cs.length ≤ m → cx' ≤ 10 + 2 * m → (∀ τ ∈ x, okRP τ) → (∀ c ∈ cs, c.1 ≤ 6 ∧ c.2.2.1.length ≤ 200 ∧ pSt (pF σ) c ≠ none) → g' + 30 * cs.length ≤ 3000 → h' + 72 + 16 * m + 140 * cs.length ≤ 3080 + 4 * cx' + 4 * co → gI2 t 1 R σ s rr (gahd 1 s rr x (cs.map (gopF (pF σ)))) = some r → (∀ τ σ1 H1 η1 ro (k : Nat) l, r = .inr (τ, σ1) → SS C B X t Γ H1 σ1 η1 ((ho τ, ro) :: M) (g' + 30 * cs.length - 8 * k) (h' + 72 + 16 * m + 140 * cs.length - 4 * cx' - 4 * co - 104 * k) → okRP τ → Qx t 0 0 σ σ1 → Er η η1 l → (∀ c, gmn c τ = gms c x.reverse ++ gms c l) → 1 ≤ k → Q (some (some (.inr (.inr ro)))) H1) → zW (YL C d 795 [zr (X 8), zr lx, zr lo] H) Q := by
      intro cs
      induction cs with
      | nil =>
        intro x H g' h' cx' S hx hcm hcx hax hac hg hh he hk
        have S1 := SS_pk 2 [1, 0] rfl rfl S
        refine yl_Parser_consPat_p51 ?_
        unfold yb_Parser_consPat_p51
        refine zW_empty (by omega) S1 (zW_f (by decide) ?_)
        exact push [] x H g' h' cx' S hx hcm hcx hax hac hg hh he hk
      | cons c cs ih =>
        intro x H g' h' cx' S hx hcm hcx hax hac hg hh he hk
        obtain ⟨b, a, x', rfl, hx'⟩ := okT_ll hx rfl
        have hcm0 := hcm
        have hcm : cs.length + 1 ≤ m := hcm
        have ha := hax a (List.mem_cons_of_mem _ List.mem_cons_self)
        have hb := hax b List.mem_cons_self
        have hc1 := hac c List.mem_cons_self
        obtain ⟨⟨s1, r1⟩, hq1⟩ := Option.ne_none_iff_exists'.mp hc1.2.2
        have hp1 : pIx (pF σ) c = some (s1, r1) := by rw [pIx_St hc1.2.2]; exact hq1
        have hgo : gopF (pF σ) c = gop c s1 r1 := by unfold gopF; rw [hp1]; rfl
        have S1 := SS_pk 2 [1, 0] rfl rfl S
        have hlc : (c :: cs).length = cs.length + 1 := rfl
        rw [hlc] at hg hh
        refine yl_Parser_consPat_p51 ?_
        unfold yb_Parser_consPat_p51
        refine zW_empty (by omega) S1 ?_
        rw [if_neg (rvm_ne (f := tkT))]
        refine zW_t rfl ?_
        have S1r := S1
        have S1r : SS C B X t Γ H σ η ((oC co ((c :: cs).reverse.map tkT), some lo) :: _ :: M) g' h' := S1
        rw [rvm] at S1r
        refine zW_last (by omega) (by omega) S1r (fun xt tkx => zW_cc tkx.2.1 (by decide +kernel) ?_)
        rw [List.map_cons, gahd, hgo] at he
        have e1 : goS (gop c s1 r1) = s1 := rfl
        have e2 : goR (gop c s1 r1) = r1 := rfl
        rw [e1, e2] at he
        refine zW_ahead (by omega) S (by omega) (by omega) tkx ⟨hc1.1, hc1.2.1⟩ hp1 hpq (fun y H' T => ?_) (fun y z => zW_f (by decide) ?_) (fun y z => zW_t rfl ?_)
        · rw [if_pos y] at he
          exact her _ _ H' (Option.some.inj he).symm T
        · rw [if_neg y, if_pos z] at he
          refine zW_consed (by omega) ha hb ⟨by omega, by omega⟩ S (fun H1 cx1 S2 c1 c2 => ?_)
          refine ih (gn 40 [[gbg a, (c.2.1 : Int)], c.2.2.1] [a, b] :: x') H1 _ _ cx1 S2 (by rw [List.length_cons, hx']) (by omega) (by omega) (fun τ hτ => ?_) (fun c' hc' => hac c' (List.mem_cons_of_mem _ hc')) (by omega) (by omega) he (fun τ σ1 H2 η1 ro k l e1 S3 o3 q3 e3 g3 => hk τ σ1 H2 η1 ro k l e1 (SS_mono S3 ?_ ?_) o3 q3 e3 (fun c => ?_))
          · rcases List.mem_cons.mp hτ with rfl | hτ
            · exact ⟨(by decide : 30 ≤ 40), (by decide : 40 ≤ 41)⟩
            · exact hax τ (List.mem_cons_of_mem _ (List.mem_cons_of_mem _ hτ))
          · rw [List.length_cons]; omega
          · rw [List.length_cons]; omega
          · rw [g3 c, gms_rv, gms_rv, gms_rv, gmn_tr (by decide), gms_2]
            simp only [List.append_assoc]
        · rw [if_neg y, if_neg z, ← hgo, ← List.map_cons] at he
          exact push (c :: cs) (b :: a :: x') H g' h' cx' S hx hcm0 hcx hax hac hg hh he hk
    exact ahd cs x H g h cx S hx hm.1 hm.2.1 hax hac hg hh he (fun τ σ1 H1 η1 ro k l e1 S1 o1 q1 e2 g1 k1 => hk τ σ1 H1 η1 ro k l e1 S1 o1 q1 e2 g1 (fun _ => k1))
theorem y_consPat (hS : YCf C B X t (R 24 [] []) 112 8 ho okPa) (hL : YIn C B X t (fun x o => R 10 [1] [gl x, gl o]) 9 567 pSt okRP) (hlen : t.length ≤ 900) (h10 : ∀ a σ r, pSt (pF σ) (pc σ) = none → R 10 [1] [gl [a], gl []] σ = some r → r = .inr (a, σ)) (h31 : ∀ a σ τ σ1, R 10 [1] [gl [a], gl []] σ = some (.inr (τ, σ1)) → pSt (pF σ) (pc σ) ≠ none → gk τ ≠ 31) : YCf C B X t (gInf 1 R) 111 9 ho okPa := by
  intro Γ H σ η M g h d Q r S hu hg hh hd he her hk
  have d40 := dep_40 S
  have he : pB (R 24 [] [] σ) (fun a σ1 => R 10 [1] [gl [a], gl []] σ1) = some r := he
  refine yl_Parser_consPat ?_
  unfold yb_Parser_consPat
  refine zW_sub hS (by omega) S hu hg hh he her (fun a σ1 H1 η1 ro S1 o1 q1 e1 he => zW_let ?_)
  have dl := dep_le q1
  have m1 := q1.2.2.1
  have hmu := pmu_le (t := t) (σ := σ1)
  refine zW_str (by omega) S1 (fun u => ?_) (fun u => ?_)
  · exact zW_rQ (hk a σ1 H1 η1 ro (h10 a σ1 r u he) S1 o1 q1 e1)
  · refine zW_alnew (by omega) S1 (fun H2 l2 S2 => zW_let (zW_alnew (by omega) S2 (fun H3 l3 S3 => zW_let ?_)))
    have S4 := SS_pk 3 [1, 2, 0] rfl rfl S3
    refine zW_add (by omega) (by omega) (okP_G o1.1) S4 (fun H4 cx S5 f5 f6 => ?_)
    have f6 : cx ≤ 10 := f6.1
    have S6 : SS C B X t Γ H4 σ1 η1 ((oC cx ([a].reverse.map ho), some l2) :: (oC 0 (([] : List Tok).reverse.map tkT), some l3) :: M) _ _ := S5
    refine hL Γ H4 σ1 η1 M _ _ d Q r cx 0 l2 l3 [a] [] 0 S6 hu (by show _ + 30 * ((0 : Nat) : Int) ≤ _; omega) (by show _ + 72 + 16 * ((0 : Nat) : Int) + 140 * ((0 : Nat) : Int) ≤ _; omega) rfl ⟨Nat.le_refl _, by omega, by omega⟩ (by omega) (fun τ hτ => by rw [List.mem_singleton.mp hτ]; exact o1.1) (fun c hc => nomatch hc) (by omega) he her (fun τ σ2 H5 η2 ro2 k l e2 S7 o2 q2 e3 g3 k1 => ?_)
    have k1 := k1 u
    refine hk τ σ2 H5 η2 ro2 e2 (SS_mono S7 ?_ ?_) ⟨o2, fun z => absurd z (h31 a σ1 τ σ2 (by rw [he, e2]) u)⟩ (Qx_to (Qx_t q1 q2) (by omega) (by omega)) (Er_c ?_ ?_ (Er_t e1 e3))
    · show _ + 30 * ((0 : Nat) : Int) - _ ≤ _; omega
    · show _ + 72 + 16 * ((0 : Nat) : Int) + 140 * ((0 : Nat) : Int) - _ - _ - _ ≤ _; omega
    · rw [gms_app, gms_1, gms_1, g3]
      show _ = gms false [a] ++ _
      rw [gms_1]
    · rw [gms_app, gms_1, gms_1, g3]
      show _ = gms true [a] ++ _
      rw [gms_1]
theorem y_infixedLoop (hS : YCf C B X t (R 11 [] []) 148 5 ho okEx) (hL : YIn C B X t (fun x o => R 10 [0] [gl x, gl o]) 6 597 pIx okRX) : YIn C B X t (fun x o σ => gInfR t 0 R x o σ) 6 597 pIx okRX := by
  intro Γ H σ η M g h d Q r cx co lx lo x cs m S hu hg hh hx hm hl hax hac hd he her hk
  have d40 := dep_40 S
  have he : gInfR t 0 R x (cs.map (gopF (pF σ))) σ = some r := he
  unfold gInfR at he
  rw [show (if (0 : Int) = 0 then pIx (pF σ) (pc σ) else pSt (pF σ) (pc σ)) = pIx (pF σ) (pc σ) from if_pos rfl] at he
  refine yl_Parser_infixed_p40 ?_
  unfold yb_Parser_infixed_p40
  refine zW_ifx (by omega) S (fun u => ?_) (fun u => ?_)
  · rw [u] at he
    have he : pR ((gall 0 x (cs.map (gopF (pF σ)))).getD 0 (gl [])) σ = some r := he
    have hr := (Option.some.inj he).symm
    have all : ∀ (cs : List Tok) (x : List Gt) (H : YS) (g' h' : Int) (cx' : Nat), SS C B X t Γ H σ η ((oC cx' (x.reverse.map ho), some lx) :: (oC co (cs.reverse.map tkT), some lo) :: M) g' h' → x.length = cs.length + 1 → cs.length ≤ m → cx' ≤ 10 + 2 * m → (∀ τ ∈ x, okRX τ) → (∀ τ H1 ro, τ = (gall 0 x (cs.map (gopF (pF σ)))).getD 0 (gl []) → SS C B X t Γ H1 σ η ((ho τ, ro) :: M) (g' + 30 * cs.length) (h' + 40 + 8 * m - 4 * cx' + 140 * cs.length) → okRX τ → (∀ c, gmn c τ = gms c x.reverse) → Q (some (some (.inr (.inr ro)))) H1) → zW (YL C d 802 [zr (X 8), zr lx, zr lo] H) Q := by
      intro cs
      induction cs with
      | nil =>
        intro x H g' h' cx' S hx _ hc hax hk
        have S1 := SS_pk 2 [1, 0] rfl rfl S
        refine yl_Parser_infixed_p116 ?_
        unfold yb_Parser_infixed_p116
        refine zW_empty (by omega) S1 ?_
        refine zW_f (by decide) ?_
        match x, hx with
        | [a], _ =>
          have ha := hax a List.mem_cons_self
          refine zW_only (by omega) S (fun w S2 _ => ?_)
          obtain ⟨y, ka, i, fs, rfl, ka1, -, -, ka2, -⟩ := SS_X0 ha S2
          refine zW_cc ka1 (cc_X ka2) (zW_rQ (hk a H _ rfl (SS_mono (SS_drop (SS_up 1 S2 rfl)) ?_ ?_) ha (fun c => ?_)))
          · show _ ≤ g' + 30 * ((0 : Nat) : Int); omega
          · show _ ≤ h' + 40 + 8 * m - 4 * cx' + 140 * ((0 : Nat) : Int); omega
          · exact gms_1.symm
      | cons c cs ih =>
        intro x H g' h' cx' S hx hcm hc hax hk
        obtain ⟨b, a, x', rfl, hx'⟩ := okT_ll hx rfl
        have hcm : cs.length + 1 ≤ m := hcm
        have ha := hax a (List.mem_cons_of_mem _ List.mem_cons_self)
        have hb := hax b List.mem_cons_self
        have S1 := SS_pk 2 [1, 0] rfl rfl S
        refine yl_Parser_infixed_p116 ?_
        unfold yb_Parser_infixed_p116
        refine zW_empty (by omega) S1 ?_
        rw [if_neg (rvm_ne (f := tkT))]
        refine zW_t rfl (zW_joined (by omega) ha hb ⟨by omega, by omega⟩ S (fun H1 cx1 S2 c1 c2 => ?_))
        refine ih (gn 7 [[gbg a, (c.2.1 : Int)], c.2.2.1] [a, b] :: x') H1 _ _ cx1 S2 (by rw [List.length_cons, hx']) (by omega) (by omega) (fun τ hτ => ?_) (fun τ H2 ro e1 S3 o3 g3 => hk τ H2 ro e1 (SS_mono S3 ?_ ?_) o3 (fun c => ?_))
        · rcases List.mem_cons.mp hτ with rfl | hτ
          · exact Or.inl ⟨(by decide : 3 ≤ 7), (by decide : 7 ≤ 20)⟩
          · exact hax τ (List.mem_cons_of_mem _ (List.mem_cons_of_mem _ hτ))
        · rw [List.length_cons]; omega
        · rw [List.length_cons]; omega
        · rw [g3 c, gms_rv, gms_rv, gms_rv, gmn_tr (by decide), List.append_assoc]
          show _ ++ (gmn c a ++ (gmn c b ++ [])) = _
          rw [List.append_nil]
    refine all cs x H g h cx S hx hm.1 hm.2.1 hax (fun τ H1 ro e1 S1 o1 g1 => hk τ σ H1 η ro 0 [] ?_ (SS_mono S1 (by omega) ?_) o1 Qx_0 (Er_1 ⟨rfl, rfl⟩) (fun c => ?_) (fun z => absurd u z))
    · rw [hr, e1]
    · omega
    · rw [g1 c]; exact (List.append_nil _).symm
  · obtain ⟨⟨s, rr⟩, hq⟩ := Option.ne_none_iff_exists'.mp u
    rw [hq] at he
    have he : gI2 t 0 R σ s rr (gahd 0 s rr x (cs.map (gopF (pF σ)))) = some r := he
    have hpq : pIx (pF σ) (pc σ) = some (s, rr) := by rw [idR u]; exact hq
    have h6 : (pc σ).1 ≠ 6 := pIx_6 (by rw [hpq]; exact fun z => nomatch z)
    have htk := SS_tk S
    have push : ∀ (cs : List Tok) (x : List Gt) (H : YS) (g' h' : Int) (cx' : Nat), SS C B X t Γ H σ η ((oC cx' (x.reverse.map ho), some lx) :: (oC co (cs.reverse.map tkT), some lo) :: M) g' h' → x.length = cs.length + 1 → cs.length ≤ m → cx' ≤ 10 + 2 * m → (∀ τ ∈ x, okRX τ) → (∀ c ∈ cs, c.1 ≤ 6 ∧ c.2.2.1.length ≤ 200 ∧ pIx (pF σ) c ≠ none) → g' + 30 * cs.length ≤ 3000 → h' + 72 + 16 * m + 140 * cs.length ≤ 3080 + 4 * cx' + 4 * co → gI2 t 0 R σ s rr (some (x, cs.map (gopF (pF σ)))) = some r → (∀ τ σ1 H1 η1 ro (k : Nat) l, r = .inr (τ, σ1) → SS C B X t Γ H1 σ1 η1 ((ho τ, ro) :: M) (g' + 30 * cs.length - 8 * k) (h' + 72 + 16 * m + 140 * cs.length - 4 * cx' - 4 * co - 104 * k) → okRX τ → Qx t 0 0 σ σ1 → Er η η1 l → (∀ c, gmn c τ = gms c x.reverse ++ gms c l) → 1 ≤ k → Q (some (some (.inr (.inr ro)))) H1) → zW (YL C d 917 [zr (X 8), zr lx, zr lo] H) Q := by
      intro cs x H g' h' cx' S hx hcm hcx hax hac hg hh he hk
      have he : pT (pPass t σ) (fun σ1 => pB (R 11 [] [] σ1) fun b σ2 => R 10 [0] [gl (b :: x), gl (gop (pc σ) s rr :: cs.map (gopF (pF σ)))] σ2) = some r := he
      refine yl_Parser_infixed_p91 ?_
      unfold yb_Parser_infixed_p91
      refine zW_tok3 S (fun at' S1 => ?_)
      have S2 := SS_pk 3 [2, 0, 1] rfl rfl S1
      refine zW_add (by omega) (by omega) okT3 S2 (fun H1 co1 S3 f1 f2 => ?_)
      rw [rvl] at f2
      rw [← rvm] at S3
      refine zW_pass (by omega) S3 h6 (by omega) (by omega) he her (fun σ1 H2 η1 S4 p1 w1 he => ?_)
      have q1 := Qx_p p1
      have m1 := q1.2.2.1
      have dl1 := dep_le q1
      refine zW_sub hS (by omega) S4 hu (by omega) (by omega) he her (fun b σ2 H3 η2 ro S5 o2 q2 e2 he => ?_)
      have m2 := q2.2.2.1
      have dl2 := dep_le q2
      have hF : pF σ2 = pF σ := q2.2.1.trans q1.2.1
      have S6 := SS_pk 3 [2, 0, 1] rfl rfl S5
      refine zW_add (by omega) (by omega) (okX_G o2) S6 (fun H4 cx1 S7 f3 f4 => ?_)
      rw [rvl] at f4
      rw [← rvm] at S7
      have S8 := SS_pk 2 [0, 1] rfl rfl S7
      have he : (fun x o => R 10 [0] [gl x, gl o]) (b :: x) ((pc σ :: cs).map (gopF (pF σ2))) σ2 = some r := by
        show R 10 [0] [gl (b :: x), gl (gopF (pF σ2) (pc σ) :: cs.map (gopF (pF σ2)))] σ2 = some r
        rw [hF, show gopF (pF σ) (pc σ) = gop (pc σ) s rr by unfold gopF; rw [hpq]; rfl]
        exact he
      refine hL Γ H4 σ2 η2 M _ _ d Q r cx1 co1 lx lo (b :: x) (pc σ :: cs) (m + 1) S8 hu (by rw [List.length_cons]; omega) (by rw [List.length_cons]; omega) (by rw [List.length_cons, List.length_cons, hx]) ⟨by rw [List.length_cons]; omega, by omega, by omega⟩ (by omega) (fun τ hτ => ?_) (fun c hc => ?_) (by omega) he her (fun τ σ3 H5 η3 ro3 k l e3 S9 o3 q3 e4 g4 _ => hk τ σ3 H5 η3 ro3 (k + 1) (b :: l) e3 (SS_mono S9 ?_ ?_) o3 (Qx_to (Qx_t q1 (Qx_t q2 q3)) (by omega) (by omega)) (Er_t (Er_o w1 e2) e4) (fun c => ?_) (by omega))
      · rcases List.mem_cons.mp hτ with rfl | hτ
        · exact o2
        · exact hax τ hτ
      · rcases List.mem_cons.mp hc with rfl | hc
        · exact ⟨htk.1, htk.2.2.1, by rw [hF]; exact u⟩
        · rw [hF]; exact hac c hc
      · rw [List.length_cons]; omega
      · rw [List.length_cons]; omega
      · rw [g4 c, gms_rv, List.append_assoc]; rfl
    have ahd : ∀ (cs : List Tok) (x : List Gt) (H : YS) (g' h' : Int) (cx' : Nat), SS C B X t Γ H σ η ((oC cx' (x.reverse.map ho), some lx) :: (oC co (cs.reverse.map tkT), some lo) :: M) g' h' → x.length = cs.length + 1 → cs.length ≤ m → cx' ≤ 10 + 2 * m → (∀ τ ∈ x, okRX τ) → (∀ c ∈ cs, c.1 ≤ 6 ∧ c.2.2.1.length ≤ 200 ∧ pIx (pF σ) c ≠ none) → g' + 30 * cs.length ≤ 3000 → h' + 72 + 16 * m + 140 * cs.length ≤ 3080 + 4 * cx' + 4 * co → gI2 t 0 R σ s rr (gahd 0 s rr x (cs.map (gopF (pF σ)))) = some r → (∀ τ σ1 H1 η1 ro (k : Nat) l, r = .inr (τ, σ1) → SS C B X t Γ H1 σ1 η1 ((ho τ, ro) :: M) (g' + 30 * cs.length - 8 * k) (h' + 72 + 16 * m + 140 * cs.length - 4 * cx' - 4 * co - 104 * k) → okRX τ → Qx t 0 0 σ σ1 → Er η η1 l → (∀ c, gmn c τ = gms c x.reverse ++ gms c l) → 1 ≤ k → Q (some (some (.inr (.inr ro)))) H1) → zW (YL C d 803 [zr (X 8), zr lx, zr lo] H) Q := by
      intro cs
      induction cs with
      | nil =>
        intro x H g' h' cx' S hx hcm hcx hax hac hg hh he hk
        have S1 := SS_pk 2 [1, 0] rfl rfl S
        refine yl_Parser_infixed_p51 ?_
        unfold yb_Parser_infixed_p51
        refine zW_empty (by omega) S1 (zW_f (by decide) ?_)
        exact push [] x H g' h' cx' S hx hcm hcx hax hac hg hh he hk
      | cons c cs ih =>
        intro x H g' h' cx' S hx hcm hcx hax hac hg hh he hk
        obtain ⟨b, a, x', rfl, hx'⟩ := okT_ll hx rfl
        have hcm0 := hcm
        have hcm : cs.length + 1 ≤ m := hcm
        have ha := hax a (List.mem_cons_of_mem _ List.mem_cons_self)
        have hb := hax b List.mem_cons_self
        have hc1 := hac c List.mem_cons_self
        obtain ⟨⟨s1, r1⟩, hq1⟩ := Option.ne_none_iff_exists'.mp hc1.2.2
        have hp1 : pIx (pF σ) c = some (s1, r1) := by rw [idR hc1.2.2]; exact hq1
        have hgo : gopF (pF σ) c = gop c s1 r1 := by unfold gopF; rw [hp1]; rfl
        have S1 := SS_pk 2 [1, 0] rfl rfl S
        have hlc : (c :: cs).length = cs.length + 1 := rfl
        rw [hlc] at hg hh
        refine yl_Parser_infixed_p51 ?_
        unfold yb_Parser_infixed_p51
        refine zW_empty (by omega) S1 ?_
        rw [if_neg (rvm_ne (f := tkT))]
        refine zW_t rfl ?_
        have S1r := S1
        have S1r : SS C B X t Γ H σ η ((oC co ((c :: cs).reverse.map tkT), some lo) :: _ :: M) g' h' := S1
        rw [rvm] at S1r
        refine zW_last (by omega) (by omega) S1r (fun xt tkx => zW_cc tkx.2.1 (by decide +kernel) ?_)
        rw [List.map_cons, gahd, hgo] at he
        have e1 : goS (gop c s1 r1) = s1 := rfl
        have e2 : goR (gop c s1 r1) = r1 := rfl
        rw [e1, e2] at he
        refine zW_ahead (by omega) S (by omega) (by omega) tkx ⟨hc1.1, hc1.2.1⟩ hp1 hpq (fun y H' T => ?_) (fun y z => zW_f (by decide) ?_) (fun y z => zW_t rfl ?_)
        · rw [if_pos y] at he
          exact her _ _ H' (Option.some.inj he).symm T
        · rw [if_neg y, if_pos z] at he
          refine zW_joined (by omega) ha hb ⟨by omega, by omega⟩ S (fun H1 cx1 S2 c1 c2 => ?_)
          refine ih (gn 7 [[gbg a, (c.2.1 : Int)], c.2.2.1] [a, b] :: x') H1 _ _ cx1 S2 (by rw [List.length_cons, hx']) (by omega) (by omega) (fun τ hτ => ?_) (fun c' hc' => hac c' (List.mem_cons_of_mem _ hc')) (by omega) (by omega) he (fun τ σ1 H2 η1 ro k l e1 S3 o3 q3 e3 g3 => hk τ σ1 H2 η1 ro k l e1 (SS_mono S3 ?_ ?_) o3 q3 e3 (fun c => ?_))
          · rcases List.mem_cons.mp hτ with rfl | hτ
            · exact Or.inl ⟨(by decide : 3 ≤ 7), (by decide : 7 ≤ 20)⟩
            · exact hax τ (List.mem_cons_of_mem _ (List.mem_cons_of_mem _ hτ))
          · rw [List.length_cons]; omega
          · rw [List.length_cons]; omega
          · rw [g3 c, gms_rv, gms_rv, gms_rv, gmn_tr (by decide), gms_2]
            simp only [List.append_assoc]
        · rw [if_neg y, if_neg z, ← hgo, ← List.map_cons] at he
          exact push (c :: cs) (b :: a :: x') H g' h' cx' S hx hcm0 hcx hax hac hg hh he hk
    exact ahd cs x H g h cx S hx hm.1 hm.2.1 hax hac hg hh he (fun τ σ1 H1 η1 ro k l e1 S1 o1 q1 e2 g1 k1 => hk τ σ1 H1 η1 ro k l e1 S1 o1 q1 e2 g1 (fun _ => k1))
theorem y_infixed (hS : YCf C B X t (R 11 [] []) 148 5 ho okEx) (hL : YIn C B X t (fun x o => R 10 [0] [gl x, gl o]) 6 597 pIx okRX) (hlen : t.length ≤ 900) (h10 : ∀ a σ r, pIx (pF σ) (pc σ) = none → R 10 [0] [gl [a], gl []] σ = some r → r = .inr (a, σ)) : YCf C B X t (gInf 0 R) 147 6 ho okEx := by
  intro Γ H σ η M g h d Q r S hu hg hh hd he her hk
  have d40 := dep_40 S
  have he : pB (R 11 [] [] σ) (fun a σ1 => R 10 [0] [gl [a], gl []] σ1) = some r := he
  refine yl_Parser_infixed ?_
  unfold yb_Parser_infixed
  refine zW_sub hS (by omega) S hu hg hh he her (fun a σ1 H1 η1 ro S1 o1 q1 e1 he => zW_let ?_)
  have dl := dep_le q1
  have m1 := q1.2.2.1
  have hmu := pmu_le (t := t) (σ := σ1)
  refine zW_ifx (by omega) S1 (fun u => ?_) (fun u => ?_)
  · exact zW_rQ (hk a σ1 H1 η1 ro (h10 a σ1 r u he) S1 o1 q1 e1)
  · refine zW_alnew (by omega) S1 (fun H2 l2 S2 => zW_let (zW_alnew (by omega) S2 (fun H3 l3 S3 => zW_let ?_)))
    have S4 := SS_pk 3 [1, 2, 0] rfl rfl S3
    refine zW_add (by omega) (by omega) (okX_G o1) S4 (fun H4 cx S5 f5 f6 => ?_)
    have f6 : cx ≤ 10 := f6.1
    have S6 : SS C B X t Γ H4 σ1 η1 ((oC cx ([a].reverse.map ho), some l2) :: (oC 0 (([] : List Tok).reverse.map tkT), some l3) :: M) _ _ := S5
    refine hL Γ H4 σ1 η1 M _ _ d Q r cx 0 l2 l3 [a] [] 0 S6 hu (by show _ + 30 * ((0 : Nat) : Int) ≤ _; omega) (by show _ + 72 + 16 * ((0 : Nat) : Int) + 140 * ((0 : Nat) : Int) ≤ _; omega) rfl ⟨Nat.le_refl _, by omega, by omega⟩ (by omega) (fun τ hτ => by rw [List.mem_singleton.mp hτ]; exact o1) (fun c hc => nomatch hc) (by omega) he her (fun τ σ2 H5 η2 ro2 k l e2 S7 o2 q2 e3 g3 k1 => ?_)
    have k1 := k1 u
    refine hk τ σ2 H5 η2 ro2 e2 (SS_mono S7 ?_ ?_) o2 (Qx_to (Qx_t q1 q2) (by omega) (by omega)) (Er_c ?_ ?_ (Er_t e1 e3))
    · show _ + 30 * ((0 : Nat) : Int) - _ ≤ _; omega
    · show _ + 72 + 16 * ((0 : Nat) : Int) + 140 * ((0 : Nat) : Int) - _ - _ - _ ≤ _; omega
    · rw [gms_app, gms_1, gms_1, g3]
      show _ = gms false [a] ++ _
      rw [gms_1]
    · rw [gms_app, gms_1, gms_1, g3]
      show _ = gms true [a] ++ _
      rw [gms_1]
end YInL
