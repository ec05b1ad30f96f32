set_option maxRecDepth 100000
/-! THE HOUSE'S LEXER: where its things lie; small steps. X: addresses (0 the lexer, 1 words, 2 text, 3 faults, 4 what is thrown, 5 names, 6 heads, 7 others) -/
def sKeptH : List (List Int) := [[40], [41], [91], [93], [123], [125], [44], [59], [95], [58], [124], [61], [61, 62], [45, 62], [35], [97, 110, 100], [97, 110, 100, 97, 108, 115, 111], [97, 115], [99, 97, 115, 101], [100, 97, 116, 97, 116, 121, 112, 101], [100, 111], [101, 108, 115, 101], [101, 110, 100], [101, 120, 99, 101, 112, 116, 105, 111, 110], [102, 110], [102, 117, 110], [104, 97, 110, 100, 108, 101], [105, 102], [105, 110], [105, 110, 102, 105, 120], [105, 110, 102, 105, 120, 114], [108, 101, 116], [108, 111, 99, 97, 108], [110, 111, 110, 102, 105, 120], [111, 102], [111, 112], [111, 114, 101, 108, 115, 101], [114, 97, 105, 115, 101], [114, 101, 99], [116, 104, 101, 110], [116, 121, 112, 101], [118, 97, 108], [119, 104, 105, 108, 101]]
theorem sKept_iff {b : List Int} : b ∈ sKept ↔ b ∈ sKeptH ∨ b = [46, 46, 46] := by
  constructor
  · intro h
    have : ∀ b ∈ sKept, b ∈ sKeptH ∨ b = [46, 46, 46] := by decide
    exact this b h
  · rintro (h | h)
    · have : ∀ b ∈ sKeptH, b ∈ sKept := by decide
      exact this b h
    · rw [h]; decide
/-- all constant Strings of the House, by number -/
def cstrT : List (List Int) := [[97, 32, 102, 97, 117, 108, 116], [61], [40], [41], [91], [93], [123], [125], [44], [59], [95], [58], [124], [61], [61, 62], [45, 62], [35], [97, 110, 100], [97, 110, 100, 97, 108, 115, 111], [97, 115], [99, 97, 115, 101], [100, 97, 116, 97, 116, 121, 112, 101], [100, 111], [101, 108, 115, 101], [101, 110, 100], [101, 120, 99, 101, 112, 116, 105, 111, 110], [102, 110], [102, 117, 110], [104, 97, 110, 100, 108, 101], [105, 102], [105, 110], [105, 110, 102, 105, 120], [105, 110, 102, 105, 120, 114], [108, 101, 116], [108, 111, 99, 97, 108], [110, 111, 110, 102, 105, 120], [111, 102], [111, 112], [111, 114, 101, 108, 115, 101], [114, 97, 105, 115, 101], [114, 101, 99], [116, 104, 101, 110], [116, 121, 112, 101], [118, 97, 108], [119, 104, 105, 108, 101], [97, 110, 32, 101, 110, 100], [105, 110, 116], [99, 104, 97, 114], [115, 116, 114, 105, 110, 103], [98, 111, 111, 108], [101, 120, 110], [108, 105, 115, 116], [114, 101, 102], [117, 110, 105, 116], [102, 97, 108, 115, 101], [116, 114, 117, 101], [], [110, 105, 108], [58, 58], [49], [50], [77, 97, 116, 99, 104], [66, 105, 110, 100], [79, 118, 101, 114, 102, 108, 111, 119], [68, 105, 118], [67, 104, 114], [83, 105, 122, 101], [83, 117, 98, 115, 99, 114, 105, 112, 116], [61], [60, 62], [60], [62], [60, 61], [62, 61], [43], [45], [42], [100, 105, 118], [109, 111, 100], [94], [58, 61], [126], [97, 98, 115], [110, 111, 116], [115, 105, 122, 101], [111, 114, 100], [99, 104, 114], [115, 116, 114], [49], [50], [51], [115, 117, 98, 115, 116, 114, 105, 110, 103], [101, 120, 112, 108, 111, 100, 101], [105, 109, 112, 108, 111, 100, 101], [109, 97, 107, 101, 115, 116, 114, 105, 110, 103], [33], [112, 114, 105, 110, 116], [], [126], [46, 46, 46], [40, 41, 91, 93, 123, 125, 44, 59, 95], [33, 37, 38, 36, 35, 43, 45, 47, 58, 60, 61, 62, 63, 64, 92, 126, 96, 94, 124, 42], [118, 97, 108], [102, 117, 110], [116, 121, 112, 101], [100, 97, 116, 97, 116, 121, 112, 101], [101, 120, 99, 101, 112, 116, 105, 111, 110], [108, 111, 99, 97, 108], [105, 110, 102, 105, 120], [105, 110, 102, 105, 120, 114], [110, 111, 110, 102, 105, 120], [114, 101, 99], [111, 112], [95], [123], [40], [91], [41], [44], [125], [46, 46, 46], [126], [58], [42], [45, 62], [97, 115], [93], [114, 97, 105, 115, 101], [105, 102], [119, 104, 105, 108, 101], [99, 97, 115, 101], [102, 110], [116, 104, 101, 110], [101, 108, 115, 101], [100, 111], [111, 102], [61, 62], [124], [35], [108, 101, 116], [59], [105, 110], [101, 110, 100], [97, 110, 100, 97, 108, 115, 111], [111, 114, 101, 108, 115, 101], [104, 97, 110, 100, 108, 101], [97, 110, 100], [105, 116], [116, 114, 117, 101], [102, 97, 108, 115, 101], [110, 105, 108], [58, 58], [114, 101, 102], [], [114, 101, 102], [40], [32], [35], [102, 110], [123], [44], [61], [41], [125], [35, 34], [92, 110], [92, 116], [92, 34], [92, 92], [34], [91], [93], [114, 101, 102], [100, 97, 116, 97, 116, 121, 112, 101, 32], [41, 32], [32, 61], [32, 124, 32], [32, 111, 102, 32], [39, 39], [39], [32, 45, 62, 32], [117, 110, 105, 116], [32, 42, 32], [58], [116, 121, 112, 101, 32], [32, 61, 32], [101, 120, 99, 101, 112, 116, 105, 111, 110, 32], [118, 97, 108, 32], [32, 58, 32], [97, 110, 100, 32, 97, 110, 100, 97, 108, 115, 111, 32, 97, 115, 32, 99, 97, 115, 101, 32, 100, 97, 116, 97, 116, 121, 112, 101, 32, 100, 111, 32, 101, 108, 115, 101, 32, 101, 110, 100, 32, 101, 120, 99, 101, 112, 116, 105, 111, 110, 32, 102, 110, 32, 102, 117, 110, 32, 104, 97, 110, 100, 108, 101, 32, 105, 102, 32, 105, 110, 32, 105, 110, 102, 105, 120, 32, 105, 110, 102, 105, 120, 114, 32, 108, 101, 116, 32, 108, 111, 99, 97, 108, 32, 110, 111, 110, 102, 105, 120, 32, 111, 102, 32, 111, 112, 32, 111, 114, 101, 108, 115, 101, 32, 114, 97, 105, 115, 101, 32, 114, 101, 99, 32, 116, 104, 101, 110, 32, 116, 121, 112, 101, 32, 118, 97, 108, 32, 119, 104, 105, 108, 101, 32, 40, 32, 41, 32, 91, 32, 93, 32, 123, 32, 125, 32, 44, 32, 59, 32, 46, 46, 46, 32, 95, 32, 58, 32, 124, 32, 61, 32, 61, 62, 32, 45, 62, 32, 35, 32], [42], [58, 58], [105, 110, 116], [101, 120, 110], [45, 62], [99, 104, 97, 114], [115, 116, 114, 105, 110, 103], [98, 111, 111, 108], [108, 105, 115, 116], [114, 101, 102], [117, 110, 105, 116], [105, 116], [116, 114, 117, 101], [102, 97, 108, 115, 101], [110, 105, 108], [77, 97, 116, 99, 104], [66, 105, 110, 100], [79, 118, 101, 114, 102, 108, 111, 119], [68, 105, 118], [67, 104, 114], [83, 105, 122, 101], [83, 117, 98, 115, 99, 114, 105, 112, 116], [61, 32, 60, 62, 32, 60, 32, 62, 32, 60, 61, 32, 62, 61, 32, 43, 32, 45, 32, 42, 32, 100, 105, 118, 32, 109, 111, 100, 32, 126, 32, 97, 98, 115, 32, 110, 111, 116, 32, 94, 32, 115, 105, 122, 101, 32, 111, 114, 100, 32, 99, 104, 114, 32, 115, 116, 114, 32, 115, 117, 98, 115, 116, 114, 105, 110, 103, 32, 101, 120, 112, 108, 111, 100, 101, 32, 105, 109, 112, 108, 111, 100, 101, 32, 109, 97, 107, 101, 115, 116, 114, 105, 110, 103, 32, 33, 32, 58, 61, 32, 112, 114, 105, 110, 116, 32], [35, 34], [92, 110], [92, 116], [91, 93], [102, 110], [118, 97, 108, 32], [32, 61, 32], [32, 58, 32], [39, 39], [39], [32, 45, 62, 32], [32, 42, 32], [41, 32], [116, 121, 112, 101, 32], [100, 97, 116, 97, 116, 121, 112, 101, 32], [32, 61], [32], [32, 124, 32], [32, 111, 102, 32], [101, 120, 99, 101, 112, 116, 105, 111, 110, 32]]
def cstr (k : Nat) : List Int := cstrT.getD k []
def cstrs : List Nat := List.range 233
/-- what never changes -/
def LfA (C : YC) (X : Nat → Nat) (H : YS) : Prop := (∀ k, k < 8 → X k < ynx H) ∧ (yK H (X 0) = 8 ∧ yK H (X 1) = 1006 ∧ yK H (X 2) = 1002 ∧ yK H (X 3) = 1 ∧ yK H (X 4) = 3 ∧ yK H (X 5) = 5 ∧ yK H (X 6) = 1000 ∧ yK H (X 7) = 1000) ∧ (yR H 2400 (X 0) = some (X 1) ∧ yR H 2401 (X 0) = some (X 2) ∧ yR H 2402 (X 0) = some (X 3) ∧ yR H 2406 (X 0) = some (X 5) ∧ yR H 2407 (X 0) = some (X 6) ∧ yR H 2408 (X 0) = some (X 7) ∧ yR H 300 (X 3) = some (X 4)) ∧ (yN H (X 1) = 43 ∧ yN H (X 2) = 8000 ∧ yN H (X 6) = 256 ∧ yN H (X 7) = 1001) ∧ X 6 ≠ X 7 ∧ ∀ k : Nat, k < 43 → yB H (X 1) k = some (C.1 (2 + k))
def Lf (C : YC) (B : Nat → Prop) (X : Nat → Nat) (H : YS) : Prop := LfA C X H ∧ ∀ k ∈ cstrs, StrY B H (C.1 k) (cstr k)
/-- the text, and how far -/
def Lt (X : Nat → Nat) (H : YS) (t : List Int) (i : Nat) : Prop := yI H 2403 (X 0) = t.length ∧ yI H 2404 (X 0) = i ∧ tOK t ∧ i ≤ t.length ∧ ∀ k : Nat, k < t.length → yA H (X 2) k = zbyte (tch t k)
def tc0 (t : List Int) (j : Nat) : Int := if tch t j < 0 then 0 else tch t j
theorem yput_put {H : YS} {f a : Nat} {v w : Int} : yput (yput H f a v) f a w = yput H f a w := by
  unfold yput
  congr 3
  funext g b
  dsimp only
  split <;> rfl
theorem yput_self {H : YS} {f a : Nat} {v : Int} (h : yI H f a = v) : yput H f a v = H := by
  unfold yput
  have : (fun g b => if g = f ∧ b = a then v else H.2.2.1 g b) = H.2.2.1 := by
    funext g b
    split
    · next e => rw [e.1, e.2]; exact h.symm
    · rfl
  rw [this]
section YLex
variable {B P : Nat → Prop} {C : YC} {X : Nat → Nat} {H H' : YS} {a a' e e' c s d f g i j x : Nat} {v : Int} {t b b' : List Int} {Q : Option (Option ZV) → YS → Prop}
theorem tc0_in (h : tOK t) (j : Nat) : (j < t.length ∧ tc0 t j = tch t j ∧ 0 ≤ tch t j ∧ tch t j ≤ 255) ∨ (t.length ≤ j ∧ tc0 t j = 0 ∧ tch t j = -1) := by
  have h1 := tch_in h j
  have h2 := tch_lt h j
  unfold tc0
  split <;> omega
theorem StrY_put (hf : f ≠ 6301) (h : StrY B H a b) : StrY B (yput H f x v) a b := ⟨h.1, h.2.1, (yput_f (fun q => hf q.symm)).trans h.2.2.1, h.2.2.2⟩
theorem Lf_put (hf : f ≠ 6301) (h : Lf C B X H) : Lf C B X (yput H f x v) := ⟨h.1, fun k hk => StrY_put hf (h.2 k hk)⟩
theorem Lt_at (h : Lt X H t i) (hj : j ≤ t.length) : Lt X (yput H 2404 (X 0) (j : Int)) t j := ⟨(yput_f (f := 2404) (g := 2403) (by decide)).trans h.1, yput_at, h.2.2.1, hj, h.2.2.2.2⟩
theorem Lt_put (hf : f ≠ 2403 ∧ f ≠ 2404) (h : Lt X H t i) : Lt X (yput H f x v) t i := ⟨(yput_f (fun q => hf.1 q.symm)).trans h.1, (yput_f (fun q => hf.2 q.symm)).trans h.2.1, h.2.2⟩
theorem y_see {k : Nat} (hF : Lf C B X H) (hT : Lt X H t i) (hk : k ≤ 3) : YL C d 171 [zr (X 0), .inl (k : Int)] H = some (some (some (.inl (tc0 t (i + k)))), H) := by
  obtain ⟨h1, h2, h3, h4, h5⟩ := hT
  have hl := h3.1
  have k8 := hF.1.2.1.1
  have hin := tc0_in h3 (i + k)
  refine zW_get (yl_Lexer_see ?_)
  unfold yb_Lexer_see
  refine zW_gI k8 rfl (zW_gI k8 rfl ?_)
  rw [h1, h2]
  refine zW_G (by omega) (zW_if (fun y => ?_) (fun y => ?_))
  · refine zW_gR k8 rfl ?_
    rw [hF.1.2.2.1.2.1]
    refine zW_gI k8 rfl ?_
    rw [h2]
    have hn := hF.1.2.2.2.1.2.1
    refine zW_aI hF.1.2.1.2.2.1 rfl (by omega) (zW_rI ⟨?_, rfl⟩)
    rw [show (i : Int) + (k : Int) = ((i + k : Nat) : Int) by omega, h5 _ (by omega)]
    have hc : 0 ≤ tch t (i + k) ∧ tch t (i + k) ≤ 255 ∧ tc0 t (i + k) = tch t (i + k) := by omega
    obtain ⟨m, hm⟩ : ∃ m : Nat, tch t (i + k) = (m : Int) := ⟨(tch t (i + k)).toNat, by omega⟩
    rw [hc.2.2, hm, zbyte_255 m (by omega)]
  · refine zW_rI ⟨?_, rfl⟩
    have : tc0 t (i + k) = 0 := by omega
    rw [this]
theorem y_isBlank {c : Int} : YL C d 172 [.inl c] H = some (some (some (.inl (bI (sBlank c)))), H) := by
  refine zW_get (yl_Lexer_isBlank ?_)
  unfold yb_Lexer_isBlank
  repeat' (first | (refine zW_rN (by decide) ⟨?_, rfl⟩) | (refine zW_if (fun z => ?_) (fun z => ?_)))
  all_goals (simp [bI, sBlank, *])
theorem y_isDigit {c : Int} : YL C d 15 [.inl c] H = some (some (some (.inl (bI (sDigit c)))), H) := by
  refine zW_get (yl_MlHouse_isDigit ?_)
  unfold yb_MlHouse_isDigit
  repeat' (first | (refine zW_rN (by decide) ⟨?_, rfl⟩) | (refine zW_if (fun z => ?_) (fun z => ?_)))
  all_goals (unfold bI sDigit; first | rw [if_pos (by simp; omega)] | rw [if_neg (by simp; omega)])
theorem y_isLetter {c : Int} : YL C d 14 [.inl c] H = some (some (some (.inl (bI (sLetter c)))), H) := by
  have h2 : ¬ (97 ≤ c ∧ c ≤ 122) → YL C d 509 [.inl c] H = some (some (some (.inl (bI (sLetter c)))), H) := by
    intro h
    refine zW_get (yl_MlHouse_isLetter_p12 ?_)
    unfold yb_MlHouse_isLetter_p12
    repeat' (first | (refine zW_rN (by decide) ⟨?_, rfl⟩) | (refine zW_if (fun z => ?_) (fun z => ?_)))
    all_goals (unfold bI sLetter; first | rw [if_pos (by simp; omega)] | rw [if_neg (by simp; omega)])
  refine zW_get (yl_MlHouse_isLetter ?_)
  unfold yb_MlHouse_isLetter
  refine zW_if (fun z => ?_) (fun z => zW_if (fun z => ?_) (fun z => ?_))
  · exact zW_eq (h2 (by omega)) ⟨rfl, rfl⟩
  · refine zW_rN (by decide) ⟨?_, rfl⟩
    unfold bI sLetter
    rw [if_pos (by simp; omega)]
  · exact zW_eq (h2 (by omega)) ⟨rfl, rfl⟩
theorem zchar_x {c : Int} (h : 0 ≤ c ∧ c ≤ 255) : zchar c = c := by
  obtain ⟨m, rfl⟩ : ∃ m : Nat, c = (m : Int) := ⟨c.toNat, by omega⟩
  exact zchar_in m (by omega)
theorem sSign_mem {c : Int} : sSign c = true ↔ c ∈ cstr 101 := by
  have e101 : cstr 101 = [33, 37, 38, 36, 35, 43, 45, 47, 58, 60, 61, 62, 63, 64, 92, 126, 96, 94, 124, 42] := by decide
  rw [e101]
  show decide _ = true ↔ c ∈ [33, 37, 38, 36, 35, 43, 45, 47, 58, 60, 61, 62, 63, 64, 92, 126, 96, 94, 124, 42]
  rw [decide_eq_true_iff]
  simp only [List.mem_cons, List.not_mem_nil, or_false]
  omega
theorem y_isSign {c : Int} (hC : CW C) (hF : Lf C B X H) (hc : 0 ≤ c ∧ c ≤ 255) : YL C (d + 4) 16 [.inl c] H = some (some (some (.inl (bI (sSign c)))), H) := by
  refine zW_get (yl_MlHouse_isSign ?_)
  unfold yb_MlHouse_isSign
  have hS := hF.2 101 (by decide)
  refine zW_if (fun y => ?_) (fun y => ?_)
  · refine zW_rN rfl ⟨?_, rfl⟩
    have : sSign c = false := by
      rw [Bool.eq_false_iff]
      intro q
      have := of_decide_eq_true q
      omega
    rw [this]; rfl
  · rw [ycv_str hS.2.1, zchar_x hc]
    refine zW_I (P := fun v S' => S' = H ∧ (0 ≤ v ↔ c ∈ cstr 101)) (T := fun _ => False) (zW_c (zW_mono (y_indexOf hC hS (by decide) hc) ?_)) ?_ (fun _ q => q.elim)
    · rintro o S' ⟨q1, v, rfl, q2⟩
      exact ⟨q1, q2⟩
    · rintro v S' ⟨rfl, q⟩
      rw [← sSign_mem] at q
      refine zW_if (fun z => zW_rN rfl ⟨?_, rfl⟩) (fun z => zW_rN rfl ⟨?_, rfl⟩)
      · have : sSign c = false := by
          rw [Bool.eq_false_iff]
          intro k
          have := q.mpr k
          omega
        rw [this]; rfl
      · rw [q.mp (by omega)]; rfl
/-- what is thrown -/
theorem y_at {n p : Int} (hF : Lf C B X H) : YL C d 48 [zr (X 3), .inl n, .inl p] H = some (some (some (.inr (.inr (some (X 4))))), yput (yput H 301 (X 3) n) 302 (X 3) p) := by
  have k1 := hF.1.2.1.2.2.2.1
  refine zW_get (yl_Faults_at ?_)
  unfold yb_Faults_at
  refine zW_pI k1 (by decide) rfl (zW_pI (by exact k1) (by decide) rfl (zW_gR (by exact k1) rfl (zW_rQ ⟨?_, rfl⟩)))
  exact congrArg (fun z : Option Nat => (some (some (Sum.inr (Sum.inr z))) : Option (Option ZV))) hF.1.2.2.1.2.2.2.2.2.2
def yThr (X : Nat → Nat) (H : YS) (n p : Int) : YS := yput (yput H 301 (X 3) n) 302 (X 3) p
theorem y_wrong (hF : Lf C B X H) (hT : Lt X H t i) : YL C (d + 1) 175 [zr (X 0)] H = some (some (some (.inr (.inr (some (X 4))))), yThr X H 1 i) := by
  have k8 := hF.1.2.1.1
  have k1 := hF.1.2.1.2.2.2.1
  refine zW_get (yl_Lexer_wrong ?_)
  unfold yb_Lexer_wrong
  refine zW_gR k8 rfl (zW_gI k8 rfl ?_)
  rw [hT.2.1, hF.1.2.2.1.2.2.1, ycv_s k1 ⟨by decide, rfl⟩]
  exact zW_Qe (y_at hF) (zW_rQ ⟨rfl, rfl⟩)
/-- rules: thrown by wrong, thrown by at -/
theorem zW_wrong (hF : Lf C B X H) (hT : Lt X H t i) (h : Q none (yThr X H 1 i)) : zW (zQ (ycv (YL C) (d + 2) [(8, 175)] (some (X 0)) [] H) fun v h => ythrow v h) Q := by
  rw [ycv_s hF.1.2.1.1 ⟨by decide, rfl⟩]
  exact zW_Qe (y_wrong hF hT) (zW_ythrow (by exact hF.1.2.1.2.2.2.2.1) h)
theorem zW_at {n p : Int} (hF : Lf C B X H) (h : Q none (yThr X H n p)) : zW (ygR 2402 (some (X 0)) H fun v => zQ (ycv (YL C) (d + 1) [(1, 48)] v [.inl n, .inl p] H) fun v h => ythrow v h) Q := by
  refine zW_gR hF.1.2.1.1 rfl ?_
  rw [hF.1.2.2.1.2.2.1, ycv_s hF.1.2.1.2.2.2.1 ⟨by decide, rfl⟩]
  exact zW_Qe (y_at hF) (zW_ythrow (by exact hF.1.2.1.2.2.2.2.1) h)
end YLex
