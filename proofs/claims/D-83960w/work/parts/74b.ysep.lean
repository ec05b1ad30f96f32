set_option maxRecDepth 100000
/-! OBJECTS IN THE HOUSE'S HEAP as trees, apart from each other. Kinds: below 100 an object of that class (field, number, field, number ..; parts 200 + field), 100 nothing, 101 a String, 102 an Integer, 103 a Token, 104 an ArrayList (its room), 105 a Mention, 106 a Strength, 107 an address, 108 made since -/
abbrev SF : Type := (Nat → Prop) → Option Nat → Prop
def oO (kd : Nat) (i : List Int) (f : List Gt) : Gt := gn kd [i] f
def oF (f : Nat) (θ : Gt) : Gt := gn (200 + f) [] [θ]
def oN : Gt := gn 100 [] []
def oS (b : List Int) : Gt := gn 101 [b] []
def oE (v : Int) : Gt := gn 102 [[v]] []
def oT (k v : Int) (b : List Int) : Gt := gn 103 [[k, v], b] []
def oT3 (k v q : Int) (b : List Int) : Gt := gn 103 [[k, v, q], b] []
def oL (s : List Gt) : Gt := gn 104 [] s
def oM (p : Int) (b : List Int) : Gt := gn 105 [[p], b] []
def oG (s r : Int) (b : List Int) : Gt := gn 106 [[s, r], b] []
def oA (a : Nat) : Gt := gn 107 [[(a : Int)]] []
def oW (n : Nat) (θ : Gt) : Gt := gn 108 [[(n : Int)]] [θ]
def oC (cap : Nat) (s : List Gt) : Gt := gn 104 [[(cap : Int)]] s
/-- apart from each other, all within F -/
def sep : (Nat → Prop) → List (SF × Option Nat) → Prop
  | _, [] => True
  | F, q :: L => ∃ G F' : Nat → Prop, (∀ x, G x → F x) ∧ (∀ x, F' x → F x) ∧ (∀ x, G x → ¬ F' x) ∧ q.1 G q.2 ∧ sep F' L
def allI (H : YS) (a : Nat) : List Int → Prop
  | f :: v :: l => yI H f.toNat a = v ∧ allI H a l
  | _ => True
/-- what never changes once it is made -/
def ImY (C : YC) (B : Nat → Prop) (H : YS) (k : Nat) (p : List (List Int)) (s : Nat) : Prop := s < ynx H ∧ (match k with
  | 101 => StrY B H s (p.getD 0 [])
  | 102 => (yK H s = 26 ∨ yK H s = 2026) ∧ yI H 7800 s = (p.getD 0 []).getD 0 0
  | 103 => yK H s = 22 ∧ yR H 6600 s = tkK C ((p.getD 0 []).getD 0 0).toNat ∧ yI H 6603 s = (p.getD 0 []).getD 1 0 ∧ (∀ q, (p.getD 0 [])[2]? = some q → yI H 6601 s = q) ∧ ∃ x, yR H 6602 s = some x ∧ StrY B H x (p.getD 1 [])
  | 105 => yK H s = 27 ∧ yI H 8101 s = (p.getD 0 []).getD 0 0 ∧ ∃ x, yR H 8100 s = some x ∧ StrY B H x (p.getD 1 [])
  | 106 => yK H s = 7 ∧ yI H 2101 s = (p.getD 0 []).getD 0 0 ∧ yI H 2102 s = (p.getD 0 []).getD 1 0 ∧ ∃ x, yR H 2100 s = some x ∧ StrY B H x (p.getD 1 [])
  | _ => False)
def hoA (C : YC) (B : Nat → Prop) (H : YS) (k : Nat) (p : List (List Int)) (s : List (Gt × SF)) : SF := fun F r =>
  if k < 100 then ∃ a, r = some a ∧ F a ∧ a < ynx H ∧ yK H a = k ∧ allI H a (p.getD 0 []) ∧ sep (fun x => F x ∧ x ≠ a) (s.map fun q => (q.2, yR H (gk q.1 - 200) a))
  else if k = 100 then r = none
  else if k = 104 then ∃ a e cap xs, r = some a ∧ F a ∧ AlY H a e cap xs ∧ (yK H e = 1005 → F e) ∧ (p = [] ∨ p = [[(cap : Int)]]) ∧ xs.length = s.length ∧ sep (fun x => F x ∧ x ≠ a ∧ x ≠ e) (List.zip (s.map fun q => q.2) xs)
  else if k = 107 then r = some ((p.getD 0 []).getD 0 0).toNat
  else if k = 108 then ∃ G : Nat → Prop, (∀ x, G x → F x) ∧ (∀ x, G x → ((p.getD 0 []).getD 0 0).toNat ≤ x) ∧ (match s with
    | [q] => q.2 G r
    | _ => False)
  else if k < 200 then ∃ a, r = some a ∧ ImY C B H k p a
  else match s with
  | [q] => q.2 F r
  | _ => False
def YO (C : YC) (B : Nat → Prop) (H : YS) : Gt → SF := gfold (fun _ _ => False) (hoA C B H)
/-- P touches nothing that never changes -/
def Im (B P : Nat → Prop) (H : YS) : Prop := PN B P H ∧ ∀ x, P x → x < ynx H → yK H x ≠ 22 ∧ yK H x ≠ 26 ∧ yK H x ≠ 2026 ∧ yK H x ≠ 27 ∧ yK H x ≠ 3011 ∧ (yK H x = 7 → yR H 2100 x = none)
section Sep
variable {C : YC} {B P F F' G : Nat → Prop} {H H' : YS} {a e c s k cap : Nat} {r : Option Nat} {L L' : List (SF × Option Nat)} {θ : Gt}
theorem gfoldA_gsp {β : Type} {z : β} {f : Nat → List (List Int) → List (Gt × β) → β} : ∀ r : Gt, (gfoldA z f r).2 = (gsp r).map fun x => (x, gfold z f x)
  | .leaf _ => rfl
  | .branch _ x r => congrArg ((x, gfold z f x) :: ·) (gfoldA_gsp r)
theorem gt_ind {P : Gt → Prop} (h0 : ∀ p, P (.leaf p)) (h1 : ∀ k l r, (∀ x ∈ gsp r, P x) → P (.branch k l r)) : ∀ t, P t := by
  have h : ∀ t : Gt, P t ∧ ∀ x ∈ gsp t, P x := by
    intro t
    induction t with
    | leaf p => exact ⟨h0 p, fun x q => nomatch q⟩
    | branch k l r hl hr => exact ⟨h1 k l r hr.2, fun x q => (List.mem_cons.mp q).elim (fun q => q ▸ hl.1) (fun q => hr.2 x q)⟩
  exact fun t => (h t).1
theorem YO_br {k : Nat} {l r : Gt} : YO C B H (.branch k l r) = hoA C B H k (gpl l) ((gsp r).map fun x => (x, YO C B H x)) := by
  show hoA C B H k (gpl l) (gfoldA _ _ r).2 = _
  rw [gfoldA_gsp]; rfl
theorem YO_gn {k : Nat} {p : List (List Int)} {s : List Gt} : YO C B H (gn k p s) = hoA C B H k p (s.map fun x => (x, YO C B H x)) := gfold_gn
theorem sep_mono (h : sep F L) (hF : ∀ x, F x → F' x) : sep F' L := by
  cases L with
  | nil => trivial
  | cons q L =>
    obtain ⟨G, F1, h1, h2, h3, h4, h5⟩ := h
    exact ⟨G, F1, fun x y => hF x (h1 x y), fun x y => hF x (h2 x y), h3, h4, h5⟩
theorem sep_map {q : SF × Option Nat → SF × Option Nat} : ∀ {F : Nat → Prop} {L : List (SF × Option Nat)}, (∀ x ∈ L, ∀ G : Nat → Prop, (∀ y, G y → F y) → x.1 G x.2 → (q x).1 G (q x).2) → sep F L → sep F (L.map q) := by
  intro F L
  induction L generalizing F with
  | nil => intro _ _; trivial
  | cons x L ih =>
    rintro hq ⟨G, F1, h1, h2, h3, h4, h5⟩
    exact ⟨G, F1, h1, h2, h3, hq x List.mem_cons_self G h1 h4, ih (fun y hy G' hG' => hq y (List.mem_cons_of_mem _ hy) G' (fun z hz => h2 z (hG' z hz))) h5⟩
theorem sep_swap {x y : SF × Option Nat} (h : sep F (x :: y :: L)) : sep F (y :: x :: L) := by
  obtain ⟨G, F1, h1, h2, h3, h4, G', F2, g1, g2, g3, g4, g5⟩ := h
  refine ⟨G', fun z => G z ∨ F2 z, fun z q => h2 z (g1 z q), fun z q => q.elim (h1 z) (fun q => h2 z (g2 z q)), fun z q w => w.elim (fun w => h3 z w (g1 z q)) (fun w => g3 z q w), g4, G, F2, fun z => Or.inl, fun z => Or.inr, fun z q w => h3 z q (g2 z w), h4, g5⟩
theorem sep_up : ∀ (i : Nat) {F : Nat → Prop} {L : List (SF × Option Nat)} (q : SF × Option Nat), L[i]? = some q → sep F L → sep F (q :: L.eraseIdx i) := by
  intro i
  induction i with
  | zero =>
    intro F L q hq h
    cases L with
    | nil => cases hq
    | cons x L => cases hq; exact h
  | succ i ih =>
    intro F L q hq h
    cases L with
    | nil => cases hq
    | cons x L =>
      obtain ⟨G, F1, h1, h2, h3, h4, h5⟩ := h
      exact sep_swap (x := x) (y := q) ⟨G, F1, h1, h2, h3, h4, ih q hq h5⟩
theorem sep_app {L2 : List (SF × Option Nat)} : ∀ {F : Nat → Prop} {L1 : List (SF × Option Nat)}, sep F (L1 ++ L2) ↔ ∃ G F', (∀ x, G x → F x) ∧ (∀ x, F' x → F x) ∧ (∀ x, G x → ¬ F' x) ∧ sep G L1 ∧ sep F' L2 := by
  intro F L1
  induction L1 generalizing F with
  | nil => exact ⟨fun h => ⟨fun _ => False, F, fun _ q => q.elim, fun _ q => q, fun _ q => q.elim, trivial, h⟩, fun ⟨_, _, _, h, _, _, g⟩ => sep_mono g h⟩
  | cons x L ih =>
    constructor
    · rintro ⟨G, F1, h1, h2, h3, h4, h5⟩
      obtain ⟨G', F', g1, g2, g3, g4, g5⟩ := ih.mp h5
      exact ⟨fun z => G z ∨ G' z, F', fun z q => q.elim (h1 z) (fun q => h2 z (g1 z q)), fun z q => h2 z (g2 z q), fun z q w => q.elim (fun q => h3 z q (g2 z w)) (fun q => g3 z q w), ⟨G, G', fun z => Or.inl, fun z => Or.inr, fun z q w => h3 z q (g1 z w), h4, g4⟩, g5⟩
    · rintro ⟨K, F', h1, h2, h3, ⟨G, F1, g1, g2, g3, g4, g5⟩, h5⟩
      exact ⟨G, fun z => F1 z ∨ F' z, fun z q => h1 z (g1 z q), fun z q => q.elim (fun q => h1 z (g2 z q)) (h2 z), fun z q w => w.elim (g3 z q) (h3 z (g1 z q)), g4, ih.mpr ⟨F1, F', fun z => Or.inl, fun z => Or.inr, fun z q w => h3 z (g2 z q) w, g5, h5⟩⟩
theorem allI_ex {l : List Int} (h : ∀ f, yI H' f a = yI H f a) : ∀ l, allI H a l → allI H' a l
  | [], _ => trivial
  | [_], _ => trivial
  | f :: v :: l, q => ⟨(h _).trans q.1, allI_ex (l := []) h l q.2⟩
theorem ImY_ex {p : List (List Int)} {x : Nat} (h : ImY C B H k p x) (hx : yEx P c s H H') (hi : Im B P H) : ImY C B H' k p x := by
  obtain ⟨h1, h2⟩ := h
  have hn := hx.2.2.1
  refine ⟨by omega, ?_⟩
  split at h2
  · exact StrY_ex h2 hx hi.1
  · obtain ⟨h2, h3⟩ := h2
    have np : ¬ P x := fun q => by have := hi.2 x q h1; omega
    rw [(hx.2.1 x h1).1, (hx.1 x h1 np).1]
    exact ⟨h2, h3⟩
  · obtain ⟨h2, h3, h4, hz, y, h5, h6⟩ := h2
    have np : ¬ P x := fun q => by have := hi.2 x q h1; omega
    have sm := hx.1 x h1 np
    exact ⟨(hx.2.1 x h1).1.trans h2, (sm.2.1 _).trans h3, (sm.1 _).trans h4, fun q w => (sm.1 _).trans (hz q w), y, (sm.2.1 _).trans h5, StrY_ex h6 hx hi.1⟩
  · obtain ⟨h2, h4, y, h5, h6⟩ := h2
    have np : ¬ P x := fun q => by have := hi.2 x q h1; omega
    have sm := hx.1 x h1 np
    exact ⟨(hx.2.1 x h1).1.trans h2, (sm.1 _).trans h4, y, (sm.2.1 _).trans h5, StrY_ex h6 hx hi.1⟩
  · obtain ⟨h2, h3, h4, y, h5, h6⟩ := h2
    have np : ¬ P x := fun q => by
      have := (hi.2 x q h1).2.2.2.2.2 h2
      rw [h5] at this
      cases this
    have sm := hx.1 x h1 np
    exact ⟨(hx.2.1 x h1).1.trans h2, (sm.1 _).trans h3, (sm.1 _).trans h4, y, (sm.2.1 _).trans h5, StrY_ex h6 hx hi.1⟩
  · exact h2.elim
theorem YO_ex (hx : yEx P c s H H') (hi : Im B P H) : ∀ (θ : Gt) (F : Nat → Prop) (r : Option Nat), (∀ x, F x → ¬ P x) → YO C B H θ F r → YO C B H' θ F r := by
  refine gt_ind (fun p F r _ h => h.elim) (fun k l s ih F r hF h => ?_)
  rw [YO_br] at h ⊢
  unfold hoA at h ⊢
  have hn := hx.2.2.1
  by_cases k1 : k < 100
  · rw [if_pos k1] at h ⊢
    obtain ⟨a, rfl, h1, h2, h3, h4, h5⟩ := h
    have sm := hx.1 a h2 (hF a h1)
    refine ⟨a, rfl, h1, by omega, (hx.2.1 a h2).1.trans h3, allI_ex (l := []) sm.1 _ h4, ?_⟩
    rw [List.map_map] at h5 ⊢
    have e : (List.map ((fun q : Gt × SF => (q.2, yR H' (gk q.1 - 200) a)) ∘ fun x => (x, YO C B H' x)) (gsp s)) = List.map (fun x => (YO C B H' x, yR H (gk x - 200) a)) (gsp s) := by
      refine List.map_congr_left (fun x _ => ?_)
      show (YO C B H' x, yR H' (gk x - 200) a) = _
      rw [sm.2.1]
    rw [e]
    have key : ∀ (l : List Gt) (F1 : Nat → Prop), (∀ x ∈ l, x ∈ gsp s) → (∀ x, F1 x → F x) → sep F1 (List.map (fun x => (YO C B H x, yR H (gk x - 200) a)) l) → sep F1 (List.map (fun x => (YO C B H' x, yR H (gk x - 200) a)) l) := by
      intro l
      induction l with
      | nil => intro _ _ _ _; trivial
      | cons y l ih2 =>
        rintro F1 hl hF1 ⟨G, F2, g1, g2, g3, g4, g5⟩
        exact ⟨G, F2, g1, g2, g3, ih y (hl y List.mem_cons_self) G _ (fun x q => hF x (hF1 x (g1 x q))) g4, ih2 F2 (fun x q => hl x (List.mem_cons_of_mem _ q)) (fun x q => hF1 x (g2 x q)) g5⟩
    exact key _ _ (fun _ q => q) (fun x q => q.1) h5
  · rw [if_neg k1] at h ⊢
    by_cases k2 : k = 100
    · rw [if_pos k2] at h ⊢; exact h
    rw [if_neg k2] at h ⊢
    by_cases k3 : k = 104
    · rw [if_pos k3] at h ⊢
      obtain ⟨a, e, cap, xs, rfl, h1, h2, h3, h4', h4, h5⟩ := h
      have he : e < ynx H := h2.2.2.2.2.2.1
      refine ⟨a, e, cap, xs, rfl, h1, AlY_ex h2 hx (hF a h1) (fun q => hF e (h3 q)), fun q => h3 (by rw [← (hx.2.1 e he).1]; exact q), h4', by rw [List.length_map] at h4 ⊢; exact h4, ?_⟩
      have key : ∀ (l : List Gt) (ys : List (Option Nat)) (F1 : Nat → Prop), (∀ x ∈ l, x ∈ gsp s) → (∀ x, F1 x → F x) → sep F1 (List.zip (List.map (fun q => q.2) (List.map (fun x => (x, YO C B H x)) l)) ys) → sep F1 (List.zip (List.map (fun q => q.2) (List.map (fun x => (x, YO C B H' x)) l)) ys) := by
        intro l
        induction l with
        | nil => intro _ _ _ _ _; trivial
        | cons y l ih2 =>
          intro ys F1 hl hF1 h
          cases ys with
          | nil => trivial
          | cons z ys =>
            obtain ⟨G, F2, g1, g2, g3, g4, g5⟩ := h
            exact ⟨G, F2, g1, g2, g3, ih y (hl y List.mem_cons_self) G _ (fun x q => hF x (hF1 x (g1 x q))) g4, ih2 ys F2 (fun x q => hl x (List.mem_cons_of_mem _ q)) (fun x q => hF1 x (g2 x q)) g5⟩
      exact key _ _ _ (fun _ q => q) (fun x q => q.1) h5
    rw [if_neg k3] at h ⊢
    by_cases k5 : k = 107
    · rw [if_pos k5] at h ⊢; exact h
    rw [if_neg k5] at h ⊢
    by_cases k6 : k = 108
    · rw [if_pos k6] at h ⊢
      obtain ⟨G, w1, w2, h⟩ := h
      refine ⟨G, w1, w2, ?_⟩
      cases hs : gsp s with
      | nil => rw [hs] at h; exact h.elim
      | cons y l =>
        cases l with
        | nil =>
          rw [hs] at h
          exact ih y (by rw [hs]; exact List.mem_cons_self) G r (fun x q => hF x (w1 x q)) h
        | cons z l => rw [hs] at h; exact h.elim
    rw [if_neg k6] at h ⊢
    by_cases k4 : k < 200
    · rw [if_pos k4] at h ⊢
      obtain ⟨a, rfl, h1⟩ := h
      exact ⟨a, rfl, ImY_ex h1 hx hi⟩
    rw [if_neg k4] at h ⊢
    cases hs : gsp s with
    | nil => rw [hs] at h; exact h.elim
    | cons y l =>
      cases l with
      | nil =>
        rw [hs] at h
        exact ih y (by rw [hs]; exact List.mem_cons_self) F r hF h
      | cons z l => rw [hs] at h; exact h.elim
theorem YO_mono : ∀ (θ : Gt) (F F' : Nat → Prop) (r : Option Nat), (∀ x, F x → F' x) → YO C B H θ F r → YO C B H θ F' r := by
  refine gt_ind (fun p F _ r _ h => h.elim) (fun k l s ih F F' r hF h => ?_)
  rw [YO_br] at h ⊢
  unfold hoA at h ⊢
  by_cases k1 : k < 100
  · rw [if_pos k1] at h ⊢
    obtain ⟨a, rfl, h1, h2, h3, h4, h5⟩ := h
    exact ⟨a, rfl, hF a h1, h2, h3, h4, sep_mono h5 (fun x q => ⟨hF x q.1, q.2⟩)⟩
  rw [if_neg k1] at h ⊢
  by_cases k2 : k = 100
  · rw [if_pos k2] at h ⊢; exact h
  rw [if_neg k2] at h ⊢
  by_cases k3 : k = 104
  · rw [if_pos k3] at h ⊢
    obtain ⟨a, e, cap, xs, rfl, h1, h2, h3, h4', h4, h5⟩ := h
    exact ⟨a, e, cap, xs, rfl, hF a h1, h2, fun q => hF e (h3 q), h4', h4, sep_mono h5 (fun x q => ⟨hF x q.1, q.2⟩)⟩
  rw [if_neg k3] at h ⊢
  by_cases k5 : k = 107
  · rw [if_pos k5] at h ⊢; exact h
  rw [if_neg k5] at h ⊢
  by_cases k6 : k = 108
  · rw [if_pos k6] at h ⊢
    obtain ⟨G, w1, w2, h⟩ := h
    exact ⟨G, fun x q => hF x (w1 x q), w2, h⟩
  rw [if_neg k6] at h ⊢
  by_cases k4 : k < 200
  · rw [if_pos k4] at h ⊢; exact h
  rw [if_neg k4] at h ⊢
  cases hs : gsp s with
  | nil => rw [hs] at h; exact h.elim
  | cons y l =>
    cases l with
    | nil =>
      rw [hs] at h
      exact ih y (by rw [hs]; exact List.mem_cons_self) F F' r hF h
    | cons z l => rw [hs] at h; exact h.elim
/-- live things: apart from each other, none of them the owner's, all of them made since N -/
def Lv (C : YC) (B : Nat → Prop) (N : Nat) (O : Nat → Prop) (H : YS) (L : List (Gt × Option Nat)) : Prop := ∃ F : Nat → Prop, (∀ x, F x → N ≤ x ∧ x < ynx H ∧ ¬ O x) ∧ sep F (L.map fun q => (YO C B H q.1, q.2))
variable {O O' : Nat → Prop} {M M' : List (Gt × Option Nat)} {N : Nat}
theorem Lv_nil : Lv C B N O H [] := ⟨fun _ => False, fun _ q => q.elim, trivial⟩
theorem sep_ex (hx : yEx P c s H H') (hi : Im B P H) : ∀ (M : List (Gt × Option Nat)) (F : Nat → Prop), (∀ x, F x → ¬ P x) → sep F (M.map fun q => (YO C B H q.1, q.2)) → sep F (M.map fun q => (YO C B H' q.1, q.2)) := by
  intro M
  induction M with
  | nil => intro _ _ _; trivial
  | cons q M ih =>
    rintro F hF ⟨G, F1, h1, h2, h3, h4, h5⟩
    exact ⟨G, F1, h1, h2, h3, YO_ex hx hi q.1 G q.2 (fun x y => hF x (h1 x y)) h4, ih F1 (fun x y => hF x (h2 x y)) h5⟩
/-- the owner has done something -/
theorem Lv_ex (h : Lv C B N O H M) (hx : yEx P c s H H') (hi : Im B P H) (hP : ∀ x, x < ynx H → P x → O x) (hO : ∀ x, x < ynx H → O' x → O x) : Lv C B N O' H' M := by
  obtain ⟨F, h1, h2⟩ := h
  have hn := hx.2.2.1
  exact ⟨F, fun x q => ⟨(h1 x q).1, by have := (h1 x q).2.1; omega, fun w => (h1 x q).2.2 (hO x (h1 x q).2.1 w)⟩, sep_ex hx hi M F (fun x q w => (h1 x q).2.2 (hP x (h1 x q).2.1 w)) h2⟩
theorem eraseIdx_map' {α β : Type} {f : α → β} : ∀ (l : List α) (i : Nat), (l.map f).eraseIdx i = (l.eraseIdx i).map f
  | [], _ => rfl
  | _ :: _, 0 => rfl
  | x :: l, i + 1 => congrArg (f x :: ·) (eraseIdx_map' l i)
theorem Lv_up (i : Nat) {q : Gt × Option Nat} (hq : M[i]? = some q) (h : Lv C B N O H M) : Lv C B N O H (q :: M.eraseIdx i) := by
  obtain ⟨F, h1, h2⟩ := h
  refine ⟨F, h1, ?_⟩
  have := sep_up i (L := M.map fun q => (YO C B H q.1, q.2)) (YO C B H q.1, q.2) (by rw [List.getElem?_map, hq]; rfl) h2
  rw [eraseIdx_map'] at this
  exact this
theorem Lv_drop {q : Gt × Option Nat} (h : Lv C B N O H (q :: M)) : Lv C B N O H M := by
  obtain ⟨F, h1, G, F1, g1, g2, g3, g4, g5⟩ := h
  exact ⟨F1, fun x y => h1 x (g2 x y), g5⟩
/-- what never changes is apart from all -/
theorem Lv_im {k : Nat} {p : List (List Int)} {x : Nat} (hk : k = 101 ∨ k = 102 ∨ k = 103 ∨ k = 105 ∨ k = 106) (hi : ImY C B H k p x) (h : Lv C B N O H M) : Lv C B N O H ((gn k p [], some x) :: M) := by
  obtain ⟨F, h1, h2⟩ := h
  refine ⟨F, h1, fun _ => False, F, fun _ q => q.elim, fun _ q => q, fun _ q => q.elim, ?_, h2⟩
  show YO C B H (gn k p []) _ _
  rw [YO_gn]
  unfold hoA
  rw [if_neg (by omega), if_neg (by omega), if_neg (by omega), if_neg (by omega), if_neg (by omega), if_pos (by omega)]
  exact ⟨x, rfl, hi⟩
theorem Lv_no (h : Lv C B N O H M) : Lv C B N O H ((oN, none) :: M) := by
  obtain ⟨F, h1, h2⟩ := h
  refine ⟨F, h1, fun _ => False, F, fun _ q => q.elim, fun _ q => q, fun _ q => q.elim, ?_, h2⟩
  show YO C B H oN (fun _ => False) none
  unfold oN
  rw [YO_gn]
  unfold hoA
  rw [if_neg (by omega), if_pos rfl]
/-- something new -/
theorem Lv_new {kd n : Nat} {v : Int} {p : List Int} (hkd : kd < 100) (hp : allI (ymk H kd v n) (ynx H) p) (hN : N ≤ ynx H) (hO : ∀ x, O x → x < ynx H) (h : Lv C B N O H M) : Lv C B N O (ymk H kd v n) ((gn kd [p] [], some (ynx H)) :: M) := by
  obtain ⟨F, h1, h2⟩ := h
  have ex : yEx (fun _ => False) 1 n H (ymk H kd v n) := yEx_mono (yEx_mk (c := 0) (s := 0) yEx_refl) (fun _ _ z => z) (by omega) (by omega)
  refine ⟨fun x => F x ∨ x = ynx H, fun x q => ?_, fun x => x = ynx H, F, fun x q => Or.inr q, fun x q => Or.inl q, fun x q w => ?_, ?_, sep_ex ex ⟨PN_F, fun _ q => q.elim⟩ M F (fun _ _ q => q) h2⟩
  · rw [ymk_x]
    rcases q with q | q
    · have := h1 x q
      exact ⟨this.1, by omega, this.2.2⟩
    · exact ⟨by omega, by omega, fun w => by have := hO x w; omega⟩
  · have := (h1 x w).2.1; omega
  · show YO C B _ (gn kd [p] []) _ _
    rw [YO_gn]
    unfold hoA
    rw [if_pos hkd]
    exact ⟨ynx H, rfl, rfl, by rw [ymk_x]; omega, by rw [ymk_K, if_pos rfl], hp, trivial⟩
/-- its parts, in order, come into an object -/
theorem sep_put {a : Nat} (hx : yEx (fun x => x = a) c s H H') : ∀ (K : List (Gt × Option Nat)) (fs : List Nat) (F : Nat → Prop), (∀ x, F x → x ≠ a) → K.length = fs.length → (∀ i, i < fs.length → yR H' (fs.getD i 0) a = (K.getD i (oN, none)).2) → sep F (K.map fun q => (YO C B H' q.1, q.2)) → sep F ((List.zipWith (fun f q => oF f q.1) fs K).map fun q => (YO C B H' q, yR H' (gk q - 200) a)) := by
  intro K
  induction K with
  | nil => intro fs F _ hl _ _; cases fs with
    | nil => trivial
    | cons f fs => cases hl
  | cons q K ih =>
    intro fs F hF hl hf h
    cases fs with
    | nil => cases hl
    | cons f fs =>
      obtain ⟨G, F1, h1, h2, h3, h4, h5⟩ := h
      refine ⟨G, F1, h1, h2, h3, ?_, ih fs F1 (fun x y => hF x (h2 x y)) (Nat.succ.inj hl) (fun i hi => hf (i + 1) (Nat.succ_lt_succ hi)) h5⟩
      show YO C B H' (oF f q.1) G (yR H' (gk (oF f q.1) - 200) a)
      unfold oF
      rw [YO_gn]
      unfold hoA
      rw [if_neg (by omega), if_neg (by omega), if_neg (by omega), if_neg (by omega), if_neg (by omega), if_neg (by omega), gk_gn, Nat.add_sub_cancel_left]
      have := hf 0 (Nat.succ_pos _)
      show YO C B H' q.1 G (yR H' f a)
      rw [show yR H' f a = q.2 from this]
      exact h4
theorem Lv_obj {kd : Nat} {p0 p : List Int} {K : List (Gt × Option Nat)} (fs : List Nat) (hkd : kd < 100) (h : Lv C B N O H ((gn kd [p0] [], some a) :: (K ++ M))) (hx : yEx (fun x => x = a) c s H H') (hi : Im B (fun x => x = a) H) (hl : K.length = fs.length) (hp : allI H' a p) (hf : ∀ i, i < fs.length → yR H' (fs.getD i 0) a = (K.getD i (oN, none)).2) : Lv C B N O H' ((gn kd [p] (List.zipWith (fun f q => oF f q.1) fs K), some a) :: M) := by
  obtain ⟨F, h1, G, F1, g1, g2, g3, g4, g5⟩ := h
  have hn := hx.2.2.1
  rw [List.map_append] at g5
  obtain ⟨K1, K2, k1, k2, k3, k4, k5⟩ := sep_app.mp g5
  have g4 : YO C B H (gn kd [p0] []) G (some a) := g4
  rw [YO_gn] at g4
  unfold hoA at g4
  rw [if_pos hkd] at g4
  obtain ⟨a', ha, q1, q2, q3, -, -⟩ := g4
  cases ha
  have nA : ∀ x, F1 x → x ≠ a := fun x q w => g3 a q1 (w ▸ q)
  refine ⟨F, fun x q => ⟨(h1 x q).1, by have := (h1 x q).2.1; omega, (h1 x q).2.2⟩, fun x => G x ∨ K1 x, K2, fun x q => q.elim (g1 x) (fun q => g2 x (k1 x q)), fun x q => g2 x (k2 x q), fun x q w => q.elim (fun q => g3 x q (k2 x w)) (fun q => k3 x q w), ?_, sep_ex hx hi M K2 (fun x q => nA x (k2 x q)) k5⟩
  show YO C B H' (gn kd [p] (List.zipWith (fun f q => oF f q.1) fs K)) _ _
  rw [YO_gn]
  unfold hoA
  rw [if_pos hkd]
  refine ⟨a, rfl, Or.inl q1, by omega, (hx.2.1 a q2).1.trans q3, hp, ?_⟩
  rw [List.map_map]
  refine sep_mono (F := K1) (sep_put hx K fs K1 (fun x q => nA x (k1 x q)) hl hf (sep_ex hx hi K K1 (fun x q => nA x (k1 x q)) k4)) (fun x q => ⟨Or.inr q, nA x (k1 x q)⟩)
end Sep
