set_option maxRecDepth 100000
/-! THE GRAMMAR: enough fuel gives an end -/
def Vp (t : List Int) (σ : Ps) : Prop := ((pc σ).1 = 6 → (pk σ).1 = 6) ∧ pi' σ ≤ t.length
def Tr (t : List Int) (M : Int) (x : PR) : Prop := ∃ q, x = some q ∧ ∀ τ σ1, q = .inr (τ, σ1) → Vp t σ1 ∧ (pmu t σ1 : Int) ≤ M
section ZFuel
variable {t : List Int} {M M1 : Int} {σ σ1 : Ps} {τ : Gt} {m n : Nat} {x y : PR}
theorem pPass_v (hT : tOK t) (hV : Vp t σ) (h6 : (pc σ).1 ≠ 6) (h : pPass t σ = .inr σ1) : Vp t σ1 ∧ pmu t σ1 + 1 ≤ pmu t σ := by
  unfold pPass at h
  split at h
  · next hk =>
    cases h
    refine ⟨⟨fun z => z, hV.2⟩, ?_⟩
    have e0 : pmu t (pk σ, pk σ, pn σ, pi' σ, pd σ, pF σ, pq σ + (if (pc σ).1 = 2 then 3 else 1)) = 0 := if_pos hk
    have e1 : pmu t σ = 1 := by unfold pmu; rw [if_neg h6, if_pos hk]
    rw [e0, e1]
    omega
  · next hk =>
    split at h
    · cases h
    · next k' j e =>
      cases h
      have hin := sRead_in hT hV.2 e
      refine ⟨⟨fun z => absurd z hk, hin.2.1⟩, ?_⟩
      unfold pmu
      rw [if_neg h6, if_neg hk, if_neg hk]
      show (if k'.1 = 6 then 1 else 2 + (t.length - j)) + 1 ≤ _
      split
      · omega
      · next w => have := hin.2.2.2.2 w; omega
theorem Tr_R (hV : Vp t σ) (h : (pmu t σ : Int) ≤ M) : Tr t M (pR τ σ) := ⟨_, rfl, fun _ _ q => by cases q; exact ⟨hV, h⟩⟩
theorem Tr_E {e : Int × Nat} : Tr t M (some (.inl e)) := ⟨_, rfl, fun _ _ q => (by cases q)⟩
theorem Tr_W : Tr t M (pWr σ) := Tr_E
theorem Tr_B {f : Gt → Ps → PR} (h : Tr t M1 x) (hf : ∀ τ σ1, Vp t σ1 → (pmu t σ1 : Int) ≤ M1 → Tr t M (f τ σ1)) : Tr t M (pB x f) := by
  obtain ⟨q, rfl, h⟩ := h
  rcases q with e | ⟨τ, σ1⟩
  · exact Tr_E
  · obtain ⟨v, m⟩ := h τ σ1 rfl
    exact hf τ σ1 v m
theorem Tr_I {c : Prop} {i : Decidable c} (h1 : c → Tr t M x) (h0 : ¬ c → Tr t M y) : Tr t M (@ite PR c i x y) := by
  split
  · next w => exact h1 w
  · next w => exact h0 w
theorem Tr_T (hT : tOK t) {f : Ps → PR} (hV : Vp t σ) (h6 : (pc σ).1 ≠ 6) (hf : ∀ σ1, Vp t σ1 → pmu t σ1 + 1 ≤ pmu t σ → Tr t M (f σ1)) : Tr t M (pT (pPass t σ) f) := by
  cases h : pPass t σ with
  | inl e => exact Tr_E
  | inr σ1 =>
    obtain ⟨v, m⟩ := pPass_v hT hV h6 h
    exact hf σ1 v m
theorem is6 (h : pIs σ m) : (pc σ).1 ≠ 6 := by have := h.1; omega
theorem Tr_Op (hT : tOK t) {f : Ps → PR} (hV : Vp t σ) (h6 : (pc σ).1 ≠ 6) (hf : ∀ σ1, Vp t σ1 → pmu t σ1 + 1 ≤ pmu t σ → Tr t M (f σ1)) : Tr t M (pOpens t σ f) := Tr_I (fun _ => Tr_E) (fun _ => Tr_T hT (σ := psd σ (pd σ + 1)) hV h6 hf)
theorem Tr_Cl (hT : tOK t) {f : Ps → PR} (hV : Vp t σ) (hf : ∀ σ1, Vp t σ1 → pmu t σ1 + 1 ≤ pmu t σ → Tr t M (f σ1)) : Tr t M (pCloses t m σ f) := Tr_I (fun w => Tr_T hT (σ := psd σ (pd σ - 1)) hV (is6 w) hf) (fun _ => Tr_W)
theorem Tr_Nd (hT : tOK t) {f : Ps → PR} (hV : Vp t σ) (hf : ∀ σ1, Vp t σ1 → pmu t σ1 + 1 ≤ pmu t σ → Tr t M (f σ1)) : Tr t M (pNeed t m σ f) := Tr_I (fun w => Tr_T hT hV (is6 w) hf) (fun _ => Tr_W)
theorem Tr_Nm (hT : tOK t) {f : List Int → Ps → PR} (hV : Vp t σ) (hf : ∀ b σ1, Vp t σ1 → pmu t σ1 + 1 ≤ pmu t σ → Tr t M (f b σ1)) : Tr t M (pName t σ f) := Tr_I (fun w => Tr_T hT hV (by omega) (hf _)) (fun _ => Tr_W)
theorem Tr_An (hT : tOK t) {f : List Int → Ps → PR} (hV : Vp t σ) (hf : ∀ b σ1, Vp t σ1 → pmu t σ1 + 1 ≤ pmu t σ → Tr t M (f b σ1)) : Tr t M (pAny t σ f) := Tr_I (fun w => Tr_T hT hV (w.elim (fun w => by omega) is6) (hf _)) (fun _ => Tr_W)
theorem Tr_On (hT : tOK t) {f : Nat → List Int → Ps → PR} (hV : Vp t σ) (hf : ∀ q b σ1, Vp t σ1 → pmu t σ1 + 1 ≤ pmu t σ → Tr t M (f q b σ1)) : Tr t M (pOpn t σ f) := Tr_I (fun w => Tr_T hT hV (is6 w) fun σ1 v m => Tr_An hT v fun b σ2 v2 m2 => hf _ b σ2 v2 (by omega)) (fun _ => Tr_Nm hT hV (hf _))
theorem Tr_Lb (hT : tOK t) {f : List Int → Ps → PR} (hV : Vp t σ) (hf : ∀ b σ1, Vp t σ1 → pmu t σ1 + 1 ≤ pmu t σ → Tr t M (f b σ1)) : Tr t M (pLab t σ f) := Tr_I (fun w => Tr_I (fun _ => Tr_W) (fun _ => Tr_T hT hV (by omega) (hf _))) (fun _ => Tr_Nm hT hV hf)
theorem Tr_c {c : Gt} (h : Tr t M x) : Tr t M (cons1 c x) := Tr_B h fun _ _ v m => Tr_R v m
/-- what a part of the grammar asks for, beyond what the tokens left ask for -/
def rk : Nat → Nat
  | 0 => 9
  | 2 => 7
  | 3 => 8
  | 5 => 7
  | 7 => 6
  | 9 => 5
  | 11 => 3
  | 12 => 3
  | 20 => 6
  | 24 => 2
  | 30 => 4
  | 32 => 3
  | 34 => 2
  | 40 => 2
  | 42 => 7
  | 43 => 5
  | 44 => 4
  | 45 => 3
  | 46 => 2
  | 49 => 2
  | _ => 1
def kC : List Nat := [0, 2, 3, 5, 7, 9, 11, 13, 15, 20, 24, 25, 27, 30, 32, 34, 36, 38, 42, 43, 44, 45, 46, 48, 49, 50, 51]
def kW : List Nat := [1, 40, 41]
def kO : List Nat := [4, 6, 8, 10, 12, 16, 21, 31, 33, 35, 47]
def SPt (t : List Int) (n : Nat) : Prop :=
  (∀ k ∈ kC, ∀ a s σ, Vp t σ → 64 * pmu t σ + rk k ≤ n → Tr t (pmu t σ - 1) (sP t n k a s σ)) ∧
  (∀ k ∈ kW, ∀ a s σ, Vp t σ → (pc σ).1 ≠ 6 → 64 * pmu t σ + rk k ≤ n → Tr t (pmu t σ - 1) (sP t n k a s σ)) ∧
  (∀ k ∈ kO, ∀ a s σ, Vp t σ → 64 * pmu t σ + rk k ≤ n → Tr t (pmu t σ) (sP t n k a s σ)) ∧
  ∀ m k : Nat, k ∈ [0, 20, 30] → ∀ s σ, Vp t σ → 64 * pmu t σ + 1 ≤ n → Tr t (pmu t σ) (sP t n 14 [(m : Int), (k : Int)] s σ)
theorem Tr_m (h : Tr t M x) (hm : M ≤ M1) : Tr t M1 x := by
  obtain ⟨q, e, h⟩ := h
  exact ⟨q, e, fun τ σ1 w => ⟨(h τ σ1 w).1, by have := (h τ σ1 w).2; omega⟩⟩
theorem wide6 {c : Tok} (h : tWide c) : c.1 ≠ 6 := by
  unfold tWide tIs at h
  omega
theorem ix6 {p : Int} {s : Int × Int} (h : (if p = 0 then pIx (pF σ) (pc σ) else pSt (pF σ) (pc σ)) = some s) : (pc σ).1 ≠ 6 := by
  intro h6
  have h1 : pSt (pF σ) (pc σ) = none := by unfold pSt; rw [if_neg (by omega)]
  have h2 : pIx (pF σ) (pc σ) = none := by
    unfold pIx
    rw [if_neg (fun w => by have := w.1; omega)]
    exact h1
  rw [h1, h2] at h
  split at h <;> cases h
theorem SPt_s (hT : tOK t) (A : SPt t n) : SPt t (n + 1) := by
  obtain ⟨A1, A2, A3, A4⟩ := A
  have c1 : ∀ k c a s σ, k ∈ kC ∧ rk k ≤ c → Vp t σ → 64 * pmu t σ + c ≤ n → ∀ {M : Int}, (pmu t σ : Int) - 1 ≤ M → Tr t M (sP t n k a s σ) := fun k c a s σ h v hn M hM => Tr_m (A1 k h.1 a s σ v (by omega)) hM
  have cw : ∀ k c a s σ, k ∈ kW ∧ rk k ≤ c → Vp t σ → (pc σ).1 ≠ 6 → 64 * pmu t σ + c ≤ n → ∀ {M : Int}, (pmu t σ : Int) - 1 ≤ M → Tr t M (sP t n k a s σ) := fun k c a s σ h v h6 hn M hM => Tr_m (A2 k h.1 a s σ v h6 (by omega)) hM
  have c0 : ∀ k c a s σ, k ∈ kO ∧ rk k ≤ c → Vp t σ → 64 * pmu t σ + c ≤ n → ∀ {M : Int}, (pmu t σ : Int) ≤ M → Tr t M (sP t n k a s σ) := fun k c a s σ h v hn M hM => Tr_m (A3 k h.1 a s σ v (by omega)) hM
  have c4 : ∀ m k : Nat, k ∈ [0, 20, 30] → ∀ s σ, Vp t σ → 64 * pmu t σ + 1 ≤ n → ∀ {M : Int}, (pmu t σ : Int) ≤ M → Tr t M (sP t n 14 [(m : Int), (k : Int)] s σ) := fun m k h s σ v hn M hM => Tr_m (A4 m k h s σ v hn) hM
  refine ⟨zqc (fun a s σ v hn => ?_) (zqc (fun a s σ v hn => ?_) (zqc (fun a s σ v hn => ?_) (zqc (fun a s σ v hn => ?_) (zqc (fun a s σ v hn => ?_) (zqc (fun a s σ v hn => ?_) (zqc (fun a s σ v hn => ?_) (zqc (fun a s σ v hn => ?_) (zqc (fun a s σ v hn => ?_) (zqc (fun a s σ v hn => ?_) (zqc (fun a s σ v hn => ?_) (zqc (fun a s σ v hn => ?_) (zqc (fun a s σ v hn => ?_) (zqc (fun a s σ v hn => ?_) (zqc (fun a s σ v hn => ?_) (zqc (fun a s σ v hn => ?_) (zqc (fun a s σ v hn => ?_) (zqc (fun a s σ v hn => ?_) (zqc (fun a s σ v hn => ?_) (zqc (fun a s σ v hn => ?_) (zqc (fun a s σ v hn => ?_) (zqc (fun a s σ v hn => ?_) (zqc (fun a s σ v hn => ?_) (zqc (fun a s σ v hn => ?_) (zqc (fun a s σ v hn => ?_) (zqc (fun a s σ v hn => ?_) (zqc (fun a s σ v hn => ?_) zqn)))))))))))))))))))))))))), zqc (fun a s σ v h6 hn => ?_) (zqc (fun a s σ v h6 hn => ?_) (zqc (fun a s σ v h6 hn => ?_) zqn)), zqc (fun a s σ v hn => ?_) (zqc (fun a s σ v hn => ?_) (zqc (fun a s σ v hn => ?_) (zqc (fun a s σ v hn => ?_) (zqc (fun a s σ v hn => ?_) (zqc (fun a s σ v hn => ?_) (zqc (fun a s σ v hn => ?_) (zqc (fun a s σ v hn => ?_) (zqc (fun a s σ v hn => ?_) (zqc (fun a s σ v hn => ?_) (zqc (fun a s σ v hn => ?_) zqn)))))))))), fun m k hk s σ v hn => ?_⟩
  · -- 0
    replace hn : 64 * pmu t σ + 9 ≤ n + 1 := hn
    show Tr t _ (gExp (sP t n) σ)
    unfold gExp
    exact Tr_I (fun w => cw 1 1 _ _ _ (by decide) v (wide6 w) (by omega) (by omega)) (fun _ => Tr_B (c1 3 8 _ _ _ (by decide) v (by omega) (Int.le_refl _)) fun e σ1 v1 m1 => c0 16 1 _ _ _ (by decide) v1 (by omega) (by omega))
  · -- 2
    replace hn : 64 * pmu t σ + 7 ≤ n + 1 := hn
    show Tr t _ (gRules t (sP t n) σ)
    unfold gRules
    exact Tr_B (c1 20 6 _ _ _ (by decide) v (by omega) (Int.le_refl _)) fun p σ1 v1 m1 => Tr_Nd hT v1 fun σ2 v2 m2 => Tr_B (c1 0 9 _ _ _ (by decide) v2 (by omega) (Int.le_refl _)) fun e σ3 v3 m3 => Tr_I (fun w => Tr_T hT v3 (is6 w) fun σ4 v4 m4 => Tr_c (c1 2 7 _ _ _ (by decide) v4 (by omega) (by omega))) (fun _ => Tr_R v3 (by omega))
  · -- 3
    replace hn : 64 * pmu t σ + 8 ≤ n + 1 := hn
    show Tr t _ (gEither (sP t n) σ)
    unfold gEither
    exact Tr_B (c1 5 7 _ _ _ (by decide) v (by omega) (Int.le_refl _)) fun e σ1 v1 m1 => c0 4 1 _ _ _ (by decide) v1 (by omega) (by omega)
  · -- 5
    replace hn : 64 * pmu t σ + 7 ≤ n + 1 := hn
    show Tr t _ (gBoth (sP t n) σ)
    unfold gBoth
    exact Tr_B (c1 7 6 _ _ _ (by decide) v (by omega) (Int.le_refl _)) fun e σ1 v1 m1 => c0 6 1 _ _ _ (by decide) v1 (by omega) (by omega)
  · -- 7
    replace hn : 64 * pmu t σ + 6 ≤ n + 1 := hn
    show Tr t _ (gTyped (sP t n) σ)
    unfold gTyped
    exact Tr_B (c1 9 5 _ _ _ (by decide) v (by omega) (Int.le_refl _)) fun e σ1 v1 m1 => c0 8 1 _ _ _ (by decide) v1 (by omega) (by omega)
  · -- 9
    replace hn : 64 * pmu t σ + 5 ≤ n + 1 := hn
    show Tr t _ (gInf (a.getD 0 0) (sP t n) σ)
    unfold gInf
    refine Tr_B (M1 := (pmu t σ : Int) - 1) ?_ fun e σ1 v1 m1 => c0 10 1 _ _ _ (by decide) v1 (by omega) (by omega)
    split
    · exact c1 11 3 _ _ _ (by decide) v (by omega) (Int.le_refl _)
    · exact c1 24 3 _ _ _ (by decide) v (by omega) (Int.le_refl _)
  · -- 11
    replace hn : 64 * pmu t σ + 3 ≤ n + 1 := hn
    show Tr t _ (gApp (sP t n) σ)
    unfold gApp
    exact Tr_B (c1 13 1 _ _ _ (by decide) v (by omega) (Int.le_refl _)) fun e σ1 v1 m1 => Tr_I (fun _ => Tr_B (c0 12 3 _ _ _ (by decide) v1 (by omega) (Int.le_refl _)) fun l σ2 v2 m2 => Tr_R v2 (by omega)) (fun _ => Tr_R v1 (by omega))
  · -- 13
    replace hn : 64 * pmu t σ + 1 ≤ n + 1 := hn
    show Tr t _ (gAt t (sP t n) σ)
    unfold gAt
    refine Tr_I (fun _ => Tr_W) (fun w0 => Tr_I (fun w => ?_) (fun _ => Tr_I (fun w => ?_) (fun _ => Tr_I (fun w => ?_) (fun _ => Tr_I (fun w => ?_) (fun _ => Tr_I (fun w => ?_) (fun _ => Tr_I (fun w => ?_) (fun _ => Tr_On hT v fun q b σ1 v1 m1 => Tr_R v1 (by omega))))))))
    · unfold gConst
      have : (pc σ).1 ≠ 6 := by unfold tCon at w; omega
      exact Tr_T hT v this fun σ1 v1 m1 => Tr_R v1 (by omega)
    · unfold gBrE
      refine Tr_Op hT v (is6 w) fun σ1 v1 m1 => Tr_I (fun _ => Tr_Cl hT v1 fun σ2 v2 m2 => Tr_R v2 (by omega)) (fun _ => Tr_B (c1 0 9 _ _ _ (by decide) v1 (by omega) (Int.le_refl _)) fun e σ2 v2 m2 => Tr_B (M1 := (pmu t σ2 : Int)) ?_ fun l σ3 v3 m3 => Tr_Cl hT v3 fun σ4 v4 m4 => Tr_R v4 (by omega))
      split
      · exact c4 34 0 (by decide) _ _ v2 (by omega) (Int.le_refl _)
      · exact c4 35 0 (by decide) _ _ v2 (by omega) (Int.le_refl _)
    · exact Tr_Op hT v (is6 w) fun σ1 v1 m1 => Tr_B (M1 := (pmu t σ1 : Int)) (Tr_I (fun _ => Tr_R v1 (by omega)) (fun _ => c1 15 1 _ _ _ (by decide) v1 (by omega) (by omega))) fun l σ2 v2 m2 => Tr_Cl hT v2 fun σ3 v3 m3 => Tr_R v3 (by omega)
    · exact Tr_Op hT v (is6 w) fun σ1 v1 m1 => Tr_B (M1 := (pmu t σ1 : Int)) (Tr_I (fun _ => Tr_R v1 (by omega)) (fun _ => Tr_B (c1 0 9 _ _ _ (by decide) v1 (by omega) (Int.le_refl _)) fun e σ2 v2 m2 => Tr_c (c4 34 0 (by decide) _ _ v2 (by omega) (by omega)))) fun l σ2 v2 m2 => Tr_Cl hT v2 fun σ3 v3 m3 => Tr_R v3 (by omega)
    · unfold gLet gDecs0
      exact Tr_Op hT v (is6 w) fun σ1 v1 m1 => Tr_B (M1 := (pmu t σ1 : Int)) (Tr_I (fun w => cw 40 2 _ _ _ (by decide) v1 (by have := w.1; omega) (by omega) (by omega)) (fun _ => Tr_R v1 (by omega))) fun ds σ2 v2 m2 => Tr_Nd hT v2 fun σ3 v3 m3 => Tr_B (c1 0 9 _ _ _ (by decide) v3 (by omega) (Int.le_refl _)) fun e σ4 v4 m4 => Tr_B (c4 35 0 (by decide) _ _ v4 (by omega) (Int.le_refl _)) fun l σ5 v5 m5 => Tr_Cl hT v5 fun σ6 v6 m6 => Tr_R (σ := psF σ6 (pF σ)) v6 (by show (pmu t σ6 : Int) ≤ _; omega)
    · exact Tr_T hT v (is6 w) fun σ1 v1 m1 => Tr_Lb hT v1 fun l σ2 v2 m2 => Tr_R v2 (by omega)
  · -- 15
    replace hn : 64 * pmu t σ + 1 ≤ n + 1 := hn
    show Tr t _ (gFldE t (sP t n) σ)
    unfold gFldE
    exact Tr_Lb hT v fun l σ1 v1 m1 => Tr_Nd hT v1 fun σ2 v2 m2 => Tr_B (c1 0 9 _ _ _ (by decide) v2 (by omega) (Int.le_refl _)) fun e σ3 v3 m3 => Tr_I (fun w => Tr_T hT v3 (is6 w) fun σ4 v4 m4 => Tr_c (c1 15 1 _ _ _ (by decide) v4 (by omega) (by omega))) (fun _ => Tr_R v3 (by omega))
  · -- 20
    replace hn : 64 * pmu t σ + 6 ≤ n + 1 := hn
    show Tr t _ (gPat t (sP t n) σ)
    unfold gPat
    exact Tr_B (c1 9 5 _ _ _ (by decide) v (by omega) (Int.le_refl _)) fun p σ1 v1 m1 => Tr_I (fun w => Tr_T hT v1 (is6 w) fun σ2 v2 m2 => Tr_B (c1 30 4 _ _ _ (by decide) v2 (by omega) (Int.le_refl _)) fun y σ3 v3 m3 => Tr_I (fun w => Tr_T hT v3 (is6 w.2) fun σ4 v4 m4 => Tr_B (c1 20 6 _ _ _ (by decide) v4 (by omega) (Int.le_refl _)) fun q σ5 v5 m5 => Tr_R v5 (by omega)) (fun _ => c0 21 1 _ _ _ (by decide) v3 (by omega) (by omega))) (fun _ => Tr_I (fun w => Tr_T hT v1 (is6 w.2) fun σ2 v2 m2 => Tr_B (c1 20 6 _ _ _ (by decide) v2 (by omega) (Int.le_refl _)) fun q σ3 v3 m3 => Tr_R v3 (by omega)) (fun _ => Tr_R v1 (by omega)))
  · -- 24
    replace hn : 64 * pmu t σ + 2 ≤ n + 1 := hn
    show Tr t _ (gAppP t (sP t n) σ)
    unfold gAppP
    exact Tr_I (fun _ => Tr_On hT v fun q b σ1 v1 m1 => Tr_I (fun _ => Tr_B (c1 25 1 _ _ _ (by decide) v1 (by omega) (Int.le_refl _)) fun x σ2 v2 m2 => Tr_R v2 (by omega)) (fun _ => Tr_R v1 (by omega))) (fun _ => c1 25 1 _ _ _ (by decide) v (by omega) (by omega))
  · -- 25
    replace hn : 64 * pmu t σ + 1 ≤ n + 1 := hn
    show Tr t _ (gAtP t (sP t n) σ)
    unfold gAtP
    refine Tr_I (fun _ => Tr_W) (fun w0 => Tr_I (fun w => ?_) (fun _ => Tr_I (fun w => ?_) (fun _ => Tr_I (fun w => ?_) (fun _ => Tr_I (fun w => ?_) (fun _ => Tr_I (fun w => ?_) (fun _ => Tr_On hT v fun q b σ1 v1 m1 => Tr_R v1 (by omega)))))))
    · exact Tr_T hT v (is6 w) fun σ1 v1 m1 => Tr_R v1 (by omega)
    · unfold gConst
      have : (pc σ).1 ≠ 6 := by unfold tCon at w; omega
      exact Tr_T hT v this fun σ1 v1 m1 => Tr_R v1 (by omega)
    · exact Tr_Op hT v (is6 w) fun σ1 v1 m1 => Tr_B (M1 := (pmu t σ1 : Int)) (Tr_I (fun _ => Tr_R v1 (by omega)) (fun _ => Tr_B (c1 20 6 _ _ _ (by decide) v1 (by omega) (Int.le_refl _)) fun e σ2 v2 m2 => Tr_c (c4 34 20 (by decide) _ _ v2 (by omega) (by omega)))) fun l σ2 v2 m2 => Tr_Cl hT v2 fun σ3 v3 m3 => Tr_R v3 (by omega)
    · exact Tr_Op hT v (is6 w) fun σ1 v1 m1 => Tr_B (M1 := (pmu t σ1 : Int)) (Tr_I (fun _ => Tr_R v1 (by omega)) (fun _ => c1 27 1 _ _ _ (by decide) v1 (by omega) (by omega))) fun l σ2 v2 m2 => Tr_Cl hT v2 fun σ3 v3 m3 => Tr_R v3 (by omega)
    · exact Tr_Op hT v (is6 w) fun σ1 v1 m1 => Tr_B (M1 := (pmu t σ1 : Int)) (Tr_I (fun _ => Tr_R v1 (by omega)) (fun _ => Tr_B (c1 20 6 _ _ _ (by decide) v1 (by omega) (Int.le_refl _)) fun e σ2 v2 m2 => Tr_c (c4 34 20 (by decide) _ _ v2 (by omega) (by omega)))) fun l σ2 v2 m2 => Tr_Cl hT v2 fun σ3 v3 m3 => Tr_R v3 (by omega)
  · -- 27
    replace hn : 64 * pmu t σ + 1 ≤ n + 1 := hn
    show Tr t _ (gRowP t (sP t n) σ)
    unfold gRowP gFldP
    have tl : ∀ (X : Gt) σ1, Vp t σ1 → pmu t σ1 + 1 ≤ pmu t σ → Tr t ((pmu t σ : Int) - 1) (if pIs σ1 34 then pT (pPass t σ1) fun σ2 => pB (sP t n 27 [] [] σ2) fun l σ3 => pR (gn (gk l) [] (X :: gs l)) σ3 else pR (gl [X]) σ1) := fun X σ1 v1 m1 => Tr_I (fun w => Tr_T hT v1 (is6 w) fun σ2 v2 m2 => Tr_B (c1 27 1 _ _ _ (by decide) v2 (by omega) (Int.le_refl _)) fun l σ3 v3 m3 => Tr_R v3 (by omega)) (fun _ => Tr_R v1 (by omega))
    exact Tr_I (fun w => Tr_T hT v (is6 w) fun σ1 v1 m1 => Tr_R v1 (by omega)) (fun _ => Tr_Lb hT v fun l σ1 v1 m1 => Tr_I (fun w => Tr_T hT v1 (is6 w) fun σ2 v2 m2 => Tr_B (c1 20 6 _ _ _ (by decide) v2 (by omega) (Int.le_refl _)) fun p σ3 v3 m3 => tl _ σ3 v3 (by omega)) (fun _ => Tr_I (fun _ => Tr_W) (fun _ => Tr_B (M1 := (pmu t σ1 : Int)) (Tr_I (fun w => Tr_T hT v1 (is6 w) fun σ2 v2 m2 => Tr_B (c1 30 4 _ _ _ (by decide) v2 (by omega) (Int.le_refl _)) fun y σ3 v3 m3 => Tr_R v3 (by omega)) (fun _ => Tr_R v1 (by omega))) fun ys σ4 v4 m4 => Tr_I (fun w => Tr_T hT v4 (is6 w) fun σ5 v5 m5 => Tr_B (c1 20 6 _ _ _ (by decide) v5 (by omega) (Int.le_refl _)) fun q σ6 v6 m6 => tl _ σ6 v6 (by omega)) (fun _ => tl _ σ4 v4 (by omega)))))
  · -- 30
    replace hn : 64 * pmu t σ + 4 ≤ n + 1 := hn
    show Tr t _ (gTy (sP t n) σ)
    unfold gTy
    exact Tr_B (c1 32 3 _ _ _ (by decide) v (by omega) (Int.le_refl _)) fun e σ1 v1 m1 => Tr_B (c0 31 1 _ _ _ (by decide) v1 (by omega) (Int.le_refl _)) fun l σ2 v2 m2 => Tr_R v2 (by omega)
  · -- 32
    replace hn : 64 * pmu t σ + 3 ≤ n + 1 := hn
    show Tr t _ (gTup (sP t n) σ)
    unfold gTup
    exact Tr_B (c1 34 2 _ _ _ (by decide) v (by omega) (Int.le_refl _)) fun e σ1 v1 m1 => Tr_B (c0 33 1 _ _ _ (by decide) v1 (by omega) (Int.le_refl _)) fun l σ2 v2 m2 => Tr_R v2 (by omega)
  · -- 34
    replace hn : 64 * pmu t σ + 2 ≤ n + 1 := hn
    show Tr t _ (gSuf (sP t n) σ)
    unfold gSuf
    exact Tr_B (c1 36 1 _ _ _ (by decide) v (by omega) (Int.le_refl _)) fun e σ1 v1 m1 => c0 35 1 _ _ _ (by decide) v1 (by omega) (by omega)
  · -- 36
    replace hn : 64 * pmu t σ + 1 ≤ n + 1 := hn
    show Tr t _ (gAtT t (sP t n) σ)
    unfold gAtT gNamed
    have nm : ∀ (s : List Gt) σ1, Vp t σ1 → (pmu t σ1 : Int) ≤ pmu t σ → Tr t ((pmu t σ : Int) - 1) (if tTyn (pc σ1) then pT (pPass t σ1) fun σ2 => pR (gn 51 [[((pc σ1).2.1 : Int)], (pc σ1).2.2.1] s) σ2 else pWr σ1) := fun s σ1 v1 m1 => Tr_I (fun w => Tr_T hT v1 (by have := w.1; omega) fun σ2 v2 m2 => Tr_R v2 (by omega)) (fun _ => Tr_W)
    exact Tr_I (fun w => Tr_T hT v (by omega) fun σ1 v1 m1 => Tr_R v1 (by omega)) (fun _ => Tr_I (fun w => Tr_Op hT v (is6 w) fun σ1 v1 m1 => Tr_B (M1 := (pmu t σ1 : Int)) (Tr_I (fun _ => Tr_R v1 (by omega)) (fun _ => c1 38 1 _ _ _ (by decide) v1 (by omega) (by omega))) fun l σ2 v2 m2 => Tr_Cl hT v2 fun σ3 v3 m3 => Tr_R v3 (by omega)) (fun _ => Tr_I (fun w => Tr_Op hT v (is6 w) fun σ1 v1 m1 => Tr_B (c1 30 4 _ _ _ (by decide) v1 (by omega) (Int.le_refl _)) fun y σ2 v2 m2 => Tr_B (c4 34 30 (by decide) _ _ v2 (by omega) (Int.le_refl _)) fun l σ3 v3 m3 => Tr_Cl hT v3 fun σ4 v4 m4 => Tr_I (fun _ => Tr_R v4 (by omega)) (fun _ => nm _ σ4 v4 (by omega))) (fun _ => nm _ σ v (by omega))))
  · -- 38
    replace hn : 64 * pmu t σ + 1 ≤ n + 1 := hn
    show Tr t _ (gFldT t (sP t n) σ)
    unfold gFldT
    exact Tr_Lb hT v fun l σ1 v1 m1 => Tr_Nd hT v1 fun σ2 v2 m2 => Tr_B (c1 30 4 _ _ _ (by decide) v2 (by omega) (Int.le_refl _)) fun e σ3 v3 m3 => Tr_I (fun w => Tr_T hT v3 (is6 w) fun σ4 v4 m4 => Tr_c (c1 38 1 _ _ _ (by decide) v4 (by omega) (by omega))) (fun _ => Tr_R v3 (by omega))
  · -- 42
    replace hn : 64 * pmu t σ + 7 ≤ n + 1 := hn
    show Tr t _ (gBinds t (sP t n) σ)
    unfold gBinds
    exact Tr_B (c1 20 6 _ _ _ (by decide) v (by omega) (Int.le_refl _)) fun p σ1 v1 m1 => Tr_Nd hT v1 fun σ2 v2 m2 => Tr_B (c1 0 9 _ _ _ (by decide) v2 (by omega) (Int.le_refl _)) fun e σ3 v3 m3 => Tr_I (fun w => Tr_T hT v3 (is6 w) fun σ4 v4 m4 => Tr_c (c1 42 7 _ _ _ (by decide) v4 (by omega) (by omega))) (fun _ => Tr_R v3 (by omega))
  · -- 43
    replace hn : 64 * pmu t σ + 5 ≤ n + 1 := hn
    show Tr t _ (gFuns t (sP t n) σ)
    unfold gFuns
    exact Tr_B (c1 44 4 _ _ _ (by decide) v (by omega) (Int.le_refl _)) fun p σ1 v1 m1 => Tr_I (fun w => Tr_T hT v1 (is6 w) fun σ4 v4 m4 => Tr_c (c1 43 5 _ _ _ (by decide) v4 (by omega) (by omega))) (fun _ => Tr_R v1 (by omega))
  · -- 44
    replace hn : 64 * pmu t σ + 4 ≤ n + 1 := hn
    show Tr t _ (gClauses t (sP t n) σ)
    unfold gClauses
    exact Tr_B (c1 45 3 _ _ _ (by decide) v (by omega) (Int.le_refl _)) fun p σ1 v1 m1 => Tr_I (fun w => Tr_T hT v1 (is6 w) fun σ4 v4 m4 => Tr_c (c1 44 4 _ _ _ (by decide) v4 (by omega) (by omega))) (fun _ => Tr_R v1 (by omega))
  · -- 45
    replace hn : 64 * pmu t σ + 3 ≤ n + 1 := hn
    show Tr t _ (gClause t (sP t n) σ)
    unfold gClause
    refine Tr_B (M1 := (pmu t σ : Int) - 1) (Tr_I (fun _ => Tr_On hT v fun q b σ1 v1 m1 => Tr_B (c1 46 2 _ _ _ (by decide) v1 (by omega) (Int.le_refl _)) fun l σ2 v2 m2 => Tr_R v2 (by omega)) (fun _ => Tr_B (c1 25 1 _ _ _ (by decide) v (by omega) (Int.le_refl _)) fun p σ1 v1 m1 => Tr_I (fun _ => Tr_W) (fun w => Tr_T hT v1 ?_ fun σ2 v2 m2 => Tr_B (c1 25 1 _ _ _ (by decide) v2 (by omega) (Int.le_refl _)) fun b σ3 v3 m3 => Tr_R v3 (by omega)))) fun h σ4 v4 m4 => Tr_B (M1 := (pmu t σ4 : Int)) (Tr_I (fun w => Tr_T hT v4 (is6 w) fun σ5 v5 m5 => Tr_B (c1 30 4 _ _ _ (by decide) v5 (by omega) (Int.le_refl _)) fun y σ6 v6 m6 => Tr_R v6 (by omega)) (fun _ => Tr_R v4 (by omega))) fun ys σ7 v7 m7 => Tr_Nd hT v7 fun σ8 v8 m8 => Tr_B (c1 0 9 _ _ _ (by decide) v8 (by omega) (Int.le_refl _)) fun e σ9 v9 m9 => Tr_R v9 (by omega)
    intro z
    exact w (by unfold pSt; rw [if_neg (by omega)])
  · -- 46
    replace hn : 64 * pmu t σ + 2 ≤ n + 1 := hn
    show Tr t _ (gPats (sP t n) σ)
    unfold gPats
    exact Tr_B (c1 25 1 _ _ _ (by decide) v (by omega) (Int.le_refl _)) fun p σ1 v1 m1 => Tr_I (fun w => Tr_c (c1 46 2 _ _ _ (by decide) v1 (by omega) (by omega))) (fun _ => Tr_R v1 (by omega))
  · -- 48
    replace hn : 64 * pmu t σ + 1 ≤ n + 1 := hn
    show Tr t _ (gVarsR t (a.getD 0 0) (sP t n) σ)
    unfold gVarsR
    exact Tr_I (fun _ => Tr_W) (fun w => Tr_I (fun _ => Tr_E) (fun _ => Tr_T hT v (by omega) fun σ1 v1 m1 => Tr_I (fun w => Tr_T hT v1 (is6 w) fun σ2 v2 m2 => Tr_c (c1 48 1 _ _ _ (by decide) v2 (by omega) (by omega))) (fun _ => Tr_R v1 (by omega))))
  · -- 49
    replace hn : 64 * pmu t σ + 2 ≤ n + 1 := hn
    show Tr t _ (gDatas t (sP t n) σ)
    unfold gDatas
    exact Tr_B (c0 47 1 _ _ _ (by decide) v (by omega) (Int.le_refl _)) fun vs σ1 v1 m1 => Tr_Nm hT v1 fun b σ2 v2 m2 => Tr_Nd hT v2 fun σ3 v3 m3 => Tr_B (c1 50 1 _ _ _ (by decide) v3 (by omega) (Int.le_refl _)) fun cs σ4 v4 m4 => Tr_I (fun w => Tr_T hT v4 (is6 w) fun σ5 v5 m5 => Tr_c (c1 49 2 _ _ _ (by decide) v5 (by omega) (by omega))) (fun _ => Tr_R v4 (by omega))
  · -- 50
    replace hn : 64 * pmu t σ + 1 ≤ n + 1 := hn
    show Tr t _ (gCons t (sP t n) σ)
    unfold gCons pBn gOf
    exact Tr_On hT v fun q b σ1 v1 m1 => Tr_B (M1 := (pmu t σ1 : Int)) (Tr_I (fun w => Tr_T hT v1 (is6 w) fun σ2 v2 m2 => Tr_B (c1 30 4 _ _ _ (by decide) v2 (by omega) (Int.le_refl _)) fun y σ3 v3 m3 => Tr_R v3 (by omega)) (fun _ => Tr_R v1 (by omega))) fun ys σ4 v4 m4 => Tr_I (fun w => Tr_T hT v4 (is6 w) fun σ5 v5 m5 => Tr_c (c1 50 1 _ _ _ (by decide) v5 (by omega) (by omega))) (fun _ => Tr_R v4 (by omega))
  · -- 51
    replace hn : 64 * pmu t σ + 1 ≤ n + 1 := hn
    show Tr t _ (gFixR t (a.getD 0 0) (a.getD 1 0) (sP t n) σ)
    unfold gFixR
    exact Tr_Nm hT v fun b σ1 v1 m1 => Tr_I (fun _ => c1 51 1 _ _ (psF σ1 ((b, a.getD 0 0, a.getD 1 0) :: pF σ1)) (by decide) v1 (by show 64 * pmu t σ1 + 1 ≤ n; omega) (show (pmu t σ1 : Int) - 1 ≤ (pmu t σ : Int) - 1 by omega)) (fun _ => Tr_R (σ := psF σ1 ((b, a.getD 0 0, a.getD 1 0) :: pF σ1)) v1 (by show (pmu t σ1 : Int) ≤ _; omega))
  · -- 1
    replace hn : 64 * pmu t σ + 1 ≤ n + 1 := hn
    show Tr t _ (gWide t (sP t n) σ)
    unfold gWide
    have dn : ∀ (X : Gt) (σ1 : Ps), Vp t σ1 → (pmu t σ1 : Int) ≤ (pmu t σ : Int) - 1 → Tr t ((pmu t σ : Int) - 1) (pR X (psd σ1 (pd σ1 - 1))) := fun X σ1 v1 m1 => Tr_R (σ := psd σ1 _) v1 m1
    exact Tr_Op hT v h6 fun σ1 v1 m1 => Tr_I (fun _ => Tr_B (c1 0 9 _ _ _ (by decide) v1 (by omega) (Int.le_refl _)) fun e σ2 v2 m2 => dn _ σ2 v2 (by omega)) (fun _ => Tr_I (fun _ => Tr_B (c1 0 9 _ _ _ (by decide) v1 (by omega) (Int.le_refl _)) fun e σ2 v2 m2 => Tr_Nd hT v2 fun σ3 v3 m3 => Tr_B (c1 0 9 _ _ _ (by decide) v3 (by omega) (Int.le_refl _)) fun b σ4 v4 m4 => Tr_Nd hT v4 fun σ5 v5 m5 => Tr_B (c1 0 9 _ _ _ (by decide) v5 (by omega) (Int.le_refl _)) fun c σ6 v6 m6 => dn _ σ6 v6 (by omega)) (fun _ => Tr_I (fun _ => Tr_B (c1 0 9 _ _ _ (by decide) v1 (by omega) (Int.le_refl _)) fun e σ2 v2 m2 => Tr_Nd hT v2 fun σ3 v3 m3 => Tr_B (c1 0 9 _ _ _ (by decide) v3 (by omega) (Int.le_refl _)) fun b σ4 v4 m4 => dn _ σ4 v4 (by omega)) (fun _ => Tr_I (fun _ => Tr_B (c1 0 9 _ _ _ (by decide) v1 (by omega) (Int.le_refl _)) fun e σ2 v2 m2 => Tr_Nd hT v2 fun σ3 v3 m3 => Tr_B (c1 2 7 _ _ _ (by decide) v3 (by omega) (Int.le_refl _)) fun b σ4 v4 m4 => dn _ σ4 v4 (by omega)) (fun _ => Tr_B (c1 2 7 _ _ _ (by decide) v1 (by omega) (Int.le_refl _)) fun b σ4 v4 m4 => dn _ σ4 v4 (by omega)))))
  · -- 40
    replace hn : 64 * pmu t σ + 2 ≤ n + 1 := hn
    show Tr t _ (gDecs t (a.getD 0 0) (sP t n) σ)
    unfold gDecs
    exact Tr_B (cw 41 1 _ _ _ (by decide) v h6 (by omega) (Int.le_refl _)) fun x σ1 v1 m1 => Tr_I (fun w => Tr_T hT v1 (is6 w.1) fun σ2 v2 m2 => Tr_I (fun w => Tr_c (cw 40 2 _ _ _ (by decide) v2 (by have := w.1; omega) (by omega) (by omega))) (fun _ => Tr_W)) (fun _ => Tr_I (fun w => Tr_c (cw 40 2 _ _ _ (by decide) v1 (by have := w.1; omega) (by omega) (by omega))) (fun _ => Tr_R v1 (by omega)))
  · -- 41
    replace hn : 64 * pmu t σ + 1 ≤ n + 1 := hn
    show Tr t _ (gDec t (sP t n) σ)
    unfold gDec pBn gOf gDecs0
    have ds : ∀ σ1, Vp t σ1 → pmu t σ1 + 1 ≤ pmu t σ → Tr t (pmu t σ1 : Int) (if tDec (pc σ1) then sP t n 40 [0] [] σ1 else pR (gl []) σ1) := fun σ1 v1 m1 => Tr_I (fun w => cw 40 2 _ _ _ (by decide) v1 (by have := w.1; omega) (by omega) (by omega)) (fun _ => Tr_R v1 (by omega))
    refine Tr_I (fun _ => Tr_T hT v h6 fun σ1 v1 m1 => ?_) (fun _ => Tr_I (fun _ => Tr_T hT v h6 fun σ1 v1 m1 => ?_) (fun _ => Tr_I (fun _ => Tr_T hT v h6 fun σ1 v1 m1 => ?_) (fun _ => Tr_I (fun _ => Tr_T hT v h6 fun σ1 v1 m1 => ?_) (fun _ => Tr_I (fun _ => Tr_T hT v h6 fun σ1 v1 m1 => ?_) (fun _ => Tr_I (fun _ => Tr_Op hT v h6 fun σ1 v1 m1 => ?_) (fun _ => Tr_T hT v h6 fun σ1 v1 m1 => ?_))))))
    · exact Tr_B (M1 := (pmu t σ1 : Int)) (Tr_I (fun w => Tr_T hT v1 (is6 w) fun σ2 v2 m2 => Tr_R v2 (by omega)) (fun _ => Tr_R v1 (by omega))) fun _ σ2 v2 m2 => Tr_B (c1 42 7 _ _ _ (by decide) v2 (by omega) (Int.le_refl _)) fun l σ3 v3 m3 => Tr_R v3 (by omega)
    · exact Tr_B (c1 43 5 _ _ _ (by decide) v1 (by omega) (Int.le_refl _)) fun l σ3 v3 m3 => Tr_R v3 (by omega)
    · exact Tr_B (c0 47 1 _ _ _ (by decide) v1 (by omega) (Int.le_refl _)) fun vs σ2 v2 m2 => Tr_Nm hT v2 fun b σ3 v3 m3 => Tr_Nd hT v3 fun σ4 v4 m4 => Tr_B (c1 30 4 _ _ _ (by decide) v4 (by omega) (Int.le_refl _)) fun y σ5 v5 m5 => Tr_R v5 (by omega)
    · exact Tr_B (c1 49 2 _ _ _ (by decide) v1 (by omega) (Int.le_refl _)) fun l σ3 v3 m3 => Tr_R v3 (by omega)
    · exact Tr_On hT v1 fun q b σ2 v2 m2 => Tr_I (fun w => Tr_T hT v2 (is6 w) fun σ3 v3 m3 => Tr_On hT v3 fun q' b' σ4 v4 m4 => Tr_R v4 (by omega)) (fun _ => Tr_B (M1 := (pmu t σ2 : Int)) (Tr_I (fun w => Tr_T hT v2 (is6 w) fun σ3 v3 m3 => Tr_B (c1 30 4 _ _ _ (by decide) v3 (by omega) (Int.le_refl _)) fun y σ4 v4 m4 => Tr_R v4 (by omega)) (fun _ => Tr_R v2 (by omega))) fun ys σ3 v3 m3 => Tr_R v3 (by omega))
    · exact Tr_B (ds σ1 v1 m1) fun d1 σ2 v2 m2 => Tr_Nd hT v2 fun σ3 v3 m3 => Tr_B (ds σ3 v3 (by omega)) fun d2 σ4 v4 m4 => Tr_Cl hT v4 fun σ5 v5 m5 => Tr_R (σ := psF σ5 (pF σ)) v5 (by show (pmu t σ5 : Int) ≤ _; omega)
    · exact Tr_I (fun _ => c1 51 1 _ _ _ (by decide) v1 (by omega) (by omega)) (fun _ => Tr_I (fun w => Tr_I (fun _ => Tr_W) (fun _ => Tr_T hT v1 (by omega) fun σ2 v2 m2 => c1 51 1 _ _ _ (by decide) v2 (by omega) (by omega))) (fun _ => c1 51 1 _ _ _ (by decide) v1 (by omega) (by omega)))
  · -- 4
    replace hn : 64 * pmu t σ + 1 ≤ n + 1 := hn
    show Tr t _ (gEitherR t (sP t n) (s.getD 0 (gl [])) σ)
    unfold gEitherR
    exact Tr_I (fun w => Tr_Op hT v (is6 w) fun σ1 v1 m1 => Tr_B (M1 := (pmu t σ1 : Int) - 1) (Tr_I (fun w => cw 1 1 _ _ _ (by decide) v1 (wide6 w) (by omega) (by omega)) (fun _ => c1 5 7 _ _ _ (by decide) v1 (by omega) (by omega))) fun b σ2 v2 m2 => c0 4 1 _ _ (psd σ2 (pd σ2 - 1)) (by decide) v2 (by show 64 * pmu t σ2 + 1 ≤ n; omega) (show (pmu t σ2 : Int) ≤ (pmu t σ : Int) by omega)) (fun _ => Tr_R v (by omega))
  · -- 6
    replace hn : 64 * pmu t σ + 1 ≤ n + 1 := hn
    show Tr t _ (gBothR t (sP t n) (s.getD 0 (gl [])) σ)
    unfold gBothR
    exact Tr_I (fun w => Tr_Op hT v (is6 w) fun σ1 v1 m1 => Tr_B (M1 := (pmu t σ1 : Int) - 1) (Tr_I (fun w => cw 1 1 _ _ _ (by decide) v1 (wide6 w) (by omega) (by omega)) (fun _ => c1 7 6 _ _ _ (by decide) v1 (by omega) (by omega))) fun b σ2 v2 m2 => c0 6 1 _ _ (psd σ2 (pd σ2 - 1)) (by decide) v2 (by show 64 * pmu t σ2 + 1 ≤ n; omega) (show (pmu t σ2 : Int) ≤ (pmu t σ : Int) by omega)) (fun _ => Tr_R v (by omega))
  · -- 8
    replace hn : 64 * pmu t σ + 1 ≤ n + 1 := hn
    show Tr t _ (gTypedR t (sP t n) (s.getD 0 (gl [])) σ)
    unfold gTypedR
    exact Tr_I (fun w => Tr_T hT v (is6 w) fun σ1 v1 m1 => Tr_B (c1 30 4 _ _ _ (by decide) v1 (by omega) (Int.le_refl _)) fun b σ2 v2 m2 => c0 8 1 _ _ _ (by decide) v2 (by omega) (by omega)) (fun _ => Tr_R v (by omega))
  · -- 10
    replace hn : 64 * pmu t σ + 1 ≤ n + 1 := hn
    show Tr t _ (gInfR t (a.getD 0 0) (sP t n) (gs (s.getD 0 (gl []))) (gs (s.getD 1 (gl []))) σ)
    generalize gs (s.getD 0 (gl [])) = xs
    generalize gs (s.getD 1 (gl [])) = os
    generalize a.getD 0 0 = p
    unfold gInfR
    cases hs : (if p = 0 then pIx (pF σ) (pc σ) else pSt (pF σ) (pc σ)) with
    | none => exact Tr_R v (by omega)
    | some q =>
      have h6 := ix6 hs
      obtain ⟨s', r'⟩ := q
      show Tr t _ (match gahd p s' r' xs os with
        | none => pWr σ
        | some (x1, o1) => pT (pPass t σ) fun σ1 => pB (sP t n (if p = 0 then 11 else 24) [] [] σ1) fun b σ2 => sP t n 10 [p] [gl (b :: x1), gl (gop (pc σ) s' r' :: o1)] σ2)
      cases gahd p s' r' xs os with
      | none => exact Tr_W
      | some y =>
        obtain ⟨x1, o1⟩ := y
        refine Tr_T hT v h6 fun σ1 v1 m1 => Tr_B (M1 := (pmu t σ1 : Int) - 1) ?_ fun b σ2 v2 m2 => c0 10 1 _ _ _ (by decide) v2 (by omega) (by omega)
        split
        · exact c1 11 3 _ _ _ (by decide) v1 (by omega) (by omega)
        · exact c1 24 2 _ _ _ (by decide) v1 (by omega) (by omega)
  · -- 12
    replace hn : 64 * pmu t σ + 3 ≤ n + 1 := hn
    show Tr t _ (gAppR (sP t n) σ)
    unfold gAppR
    exact Tr_I (fun _ => Tr_B (c1 13 1 _ _ _ (by decide) v (by omega) (Int.le_refl _)) fun x σ1 v1 m1 => Tr_c (c0 12 3 _ _ _ (by decide) v1 (by omega) (by omega))) (fun _ => Tr_R v (by omega))
  · -- 16
    replace hn : 64 * pmu t σ + 1 ≤ n + 1 := hn
    show Tr t _ (gHdl t (sP t n) (s.getD 0 (gl [])) σ)
    unfold gHdl
    exact Tr_I (fun w => Tr_Op hT v (is6 w) fun σ1 v1 m1 => Tr_B (c1 2 7 _ _ _ (by decide) v1 (by omega) (Int.le_refl _)) fun b σ2 v2 m2 => c0 16 1 _ _ (psd σ2 (pd σ2 - 1)) (by decide) v2 (by show 64 * pmu t σ2 + 1 ≤ n; omega) (show (pmu t σ2 : Int) ≤ (pmu t σ : Int) by omega)) (fun _ => Tr_R v (by omega))
  · -- 21
    replace hn : 64 * pmu t σ + 1 ≤ n + 1 := hn
    show Tr t _ (gPatR t (sP t n) (s.getD 0 (gl [])) σ)
    unfold gPatR
    exact Tr_I (fun w => Tr_T hT v (is6 w) fun σ1 v1 m1 => Tr_B (c1 30 4 _ _ _ (by decide) v1 (by omega) (Int.le_refl _)) fun b σ2 v2 m2 => c0 21 1 _ _ _ (by decide) v2 (by omega) (by omega)) (fun _ => Tr_R v (by omega))
  · -- 31
    replace hn : 64 * pmu t σ + 1 ≤ n + 1 := hn
    show Tr t _ (gArrR t (sP t n) σ)
    unfold gArrR
    exact Tr_I (fun w => Tr_T hT v (is6 w) fun σ1 v1 m1 => Tr_B (c1 32 3 _ _ _ (by decide) v1 (by omega) (Int.le_refl _)) fun b σ2 v2 m2 => Tr_c (c0 31 1 _ _ _ (by decide) v2 (by omega) (by omega))) (fun _ => Tr_R v (by omega))
  · -- 33
    replace hn : 64 * pmu t σ + 1 ≤ n + 1 := hn
    show Tr t _ (gTupR t (sP t n) σ)
    unfold gTupR
    exact Tr_I (fun w => Tr_T hT v (by have := w.1; omega) fun σ1 v1 m1 => Tr_B (c1 34 2 _ _ _ (by decide) v1 (by omega) (Int.le_refl _)) fun b σ2 v2 m2 => Tr_c (c0 33 1 _ _ _ (by decide) v2 (by omega) (by omega))) (fun _ => Tr_R v (by omega))
  · -- 35
    replace hn : 64 * pmu t σ + 1 ≤ n + 1 := hn
    show Tr t _ (gSufR t (sP t n) (s.getD 0 (gl [])) σ)
    unfold gSufR
    exact Tr_I (fun w => Tr_T hT v (by have := w.1; omega) fun σ1 v1 m1 => c0 35 1 _ _ _ (by decide) v1 (by omega) (by omega)) (fun _ => Tr_R v (by omega))
  · -- 47
    replace hn : 64 * pmu t σ + 1 ≤ n + 1 := hn
    show Tr t _ (gVars t (sP t n) σ)
    unfold gVars
    exact Tr_I (fun w => Tr_T hT v (by omega) fun σ1 v1 m1 => Tr_R v1 (by omega)) (fun _ => Tr_I (fun w => Tr_Op hT v (is6 w) fun σ1 v1 m1 => Tr_B (c1 48 1 _ _ _ (by decide) v1 (by omega) (Int.le_refl _)) fun l σ2 v2 m2 => Tr_Cl hT v2 fun σ3 v3 m3 => Tr_R v3 (by omega)) (fun _ => Tr_R v (by omega)))
  · -- 14
    show Tr t _ (gSeq t m k (sP t n) σ)
    unfold gSeq
    have hk' : k ∈ kC ∧ rk k ≤ 9 := by
      have : ∀ k ∈ [0, 20, 30], k ∈ kC ∧ rk k ≤ 9 := by decide
      exact this k hk
    exact Tr_I (fun w => Tr_T hT v (is6 w) fun σ1 v1 m1 => Tr_B (c1 k 9 _ _ _ hk' v1 (by omega) (Int.le_refl _)) fun b σ2 v2 m2 => Tr_c (c4 m k hk _ _ v2 (by omega) (by omega))) (fun _ => Tr_R v (by omega))
theorem rk_pos : ∀ k, 1 ≤ rk k := by
  intro k
  unfold rk
  split <;> omega
theorem SPt_n (hT : tOK t) : ∀ n, SPt t n
  | 0 => ⟨fun k _ _ _ σ _ h => absurd h (by have := rk_pos k; omega), fun k _ _ _ σ _ _ h => absurd h (by have := rk_pos k; omega), fun k _ _ _ σ _ h => absurd h (by have := rk_pos k; omega), fun _ _ _ _ σ _ h => absurd h (by omega)⟩
  | n + 1 => SPt_s hT (SPt_n hT n)
/-- one input comes to an end -/
theorem sIn_end (hT : tOK t) (hlen : t.length ≤ 900) {F : Fx} (hn : 60000 ≤ n) : ∃ r, sIn t F n = some r := by
  have A := SPt_n hT n
  have pm : ∀ σ, Vp t σ → pmu t σ ≤ 902 := by
    intro σ v
    unfold pmu
    split
    · omega
    · split
      · omega
      · omega
  have inp : ∀ σ, Vp t σ → Tr t (pmu t σ) (gInput t (sP t n) σ) := by
    intro σ v
    have := pm σ v
    unfold gInput
    refine Tr_B (M1 := (pmu t σ : Int)) (Tr_I (fun w => Tr_m (A.2.1 40 (by decide) _ _ _ v (by have := w.1; omega) (by show 64 * pmu t σ + 2 ≤ n; omega)) (by omega)) (fun _ => Tr_B (A.1 0 (by decide) _ _ _ v (by show 64 * pmu t σ + 9 ≤ n; omega)) fun e σ1 v1 m1 => Tr_R v1 (by omega))) fun l σ1 v1 m1 => Tr_B (M1 := (pmu t σ : Int)) (Tr_I (fun w => Tr_T hT v1 (is6 w) fun σ2 v2 m2 => Tr_R v2 (by omega)) (fun _ => Tr_R v1 (by omega))) fun l σ2 v2 m2 => Tr_I (fun _ => Tr_R v2 (by omega)) (fun _ => Tr_W)
  have go : ∀ σ, Vp t σ → ∃ r, gInput t (sP t n) σ = some r := fun σ v => by
    obtain ⟨q, e, -⟩ := inp σ v
    exact ⟨q, e⟩
  unfold sIn gStart
  cases h : sRead t 0 0 with
  | inl e => exact ⟨_, rfl⟩
  | inr q =>
    obtain ⟨k, j⟩ := q
    have hin := sRead_in hT (Nat.zero_le _) h
    show ∃ r, pT (if k.1 = 6 then .inr (k, k, 0, j, 0, F, 0) else match sRead t 1 j with
      | .inl e => .inl e
      | .inr (k', j') => .inr (k, k', 1 + (if k'.1 = 6 then 0 else 1), j', 0, F, 0)) (fun σ => gInput t (sP t n) σ) = some r
    by_cases k6 : k.1 = 6
    · rw [if_pos k6]
      exact go (k, k, 0, j, 0, F, 0) ⟨fun _ => k6, hin.2.1⟩
    · rw [if_neg k6]
      cases h' : sRead t 1 j with
      | inl e => exact ⟨_, rfl⟩
      | inr q =>
        obtain ⟨k', j'⟩ := q
        have hin' := sRead_in hT hin.2.1 h'
        exact go (k, k', 1 + (if k'.1 = 6 then 0 else 1), j', 0, F, 0) ⟨fun z => absurd z k6, hin'.2.1⟩
end ZFuel
