set_option maxRecDepth 100000
/-! THE HOUSE'S TYPES: its rows, as a graph -/
/-- labels of types of datatypes, how many parts they have, how many there are; variables of a text by their numbers; which of them admit equality -/
abbrev Hmp : Type := (Nat → Nat) × (Nat → Nat) × Nat × (Nat → Nat) × (Nat → Bool)
abbrev nC (ν : Hmp) : Nat → Nat := ν.1
abbrev nA (ν : Hmp) : Nat → Nat := ν.2.1
abbrev nD (ν : Hmp) : Nat := ν.2.2.1
abbrev nX (ν : Hmp) : Nat → Nat := ν.2.2.2.1
abbrev nR (ν : Hmp) : Nat → Bool := ν.2.2.2.2
def Nok (ν : Hmp) : Prop := (nC ν 0 = 0 ∧ nC ν 1 = 3 ∧ nC ν 2 = 6 ∧ nC ν 6 = 18) ∧ (∀ c, nC ν c % 3 = 0) ∧ (∀ c c', c < nD ν → c' < nD ν → nC ν c = nC ν c' → c = c') ∧ (nA ν 0 = 0 ∧ nA ν 1 = 0 ∧ nA ν 2 = 0 ∧ 7 ≤ nD ν) ∧ ∀ c, nA ν c ≤ 8
/-- labels in their order -/
def llex : List Int → List Int → Int
  | [], b => -(b.length : Int)
  | a, [] => a.length
  | x :: a, y :: b => if x = y then llex a b else if x < y then -1 else 1
abbrev lnum (a : List Int) : Prop := 48 ≤ a.getD 0 0 ∧ a.getD 0 0 ≤ 57
def lcmp (a b : List Int) : Int := if lnum a ↔ lnum b then (if lnum a ∧ a.length ≠ b.length then (a.length : Int) - b.length else llex a b) else if lnum a then -1 else 1
def hlk (T : Nat → Nat) (H : YS) : Nat → Option Nat := fun x => if 0 ≤ hti T H x then some (hti T H x).toNat else none
def hkd (T : Nat → Nat) (H : YS) (key : Nat → Ky) (a k : Nat) : List (Ky × Nat) := (List.range k).map fun i => (key i, (hpt T H ((a + i : Nat) : Int)).toNat)
def kI : Nat → Ky := fun i => [(i : Int)]
def HNode (T : Nat → Nat) (ν : Hmp) (H : YS) (lb : Nat → List Int) (N : TN) (b : Yfl) (a k x : Nat) : Prop :=
  (b.1 = 0 ∧ k = 0 ∧ hti T H x = -1 ∧ N = (b.2.1, .inl (if b.2.2.1 then 1 else 0))) ∨
  (b.1 = 5 ∧ k = 0 ∧ ∃ f : Nat, hti T H x = -2 - (f : Int) ∧ (f : Int) < hin T H 1219 ∧ N = (nR ν (nX ν f) || b.2.1, .inl (nX ν f + 2))) ∨
  (b.1 = 3 ∧ ∃ c : Nat, hti T H x = -2 - (c : Int) ∧ c < nD ν ∧ k = nA ν c ∧ N = (b.2.1, .inr (nC ν c, false, hkd T H kI a k))) ∨
  (b.1 = 4 ∧ k = 2 ∧ hti T H x = -1 ∧ N = (b.2.1, .inr (5, false, hkd T H kI a k))) ∨
  ((b.1 = 2 ∨ b.1 = 1) ∧ hti T H x = -1 ∧ N = (b.2.1, .inr (2, decide (b.1 = 1), hkd T H (fun i => lb (a + i)) a k)) ∧ (∀ i j, i < j → j < k → lcmp (lb (a + i)) (lb (a + j)) < 0) ∧ ∀ i, i < k → lb (a + i) ≠ [])
/-- nodes n, parts m; flags, spans, labels; those of Rz are being made -/
def HG (B : Nat → Prop) (T : Nat → Nat) (ν : Hmp) (H : YS) (G : TG) (n m : Nat) (fl : Nat → Yfl) (sp : Nat → Nat × Nat) (lb : Nat → List Int) (Rz : Nat → Prop) : Prop :=
  (hin T H 1211 = (n : Int) ∧ hin T H 1212 = (m : Int) ∧ n ≤ 60000 ∧ m ≤ 150000) ∧
  (LkO (hlk T H) G.1 n ∧ ∀ x, x < n → -100000 ≤ hti T H x) ∧
  (∀ x, x < n → hfl T H x = (yfb (fl x) : Int) ∧ yfOK (fl x) ∧ hsp T H x = ((512 * (sp x).1 + (sp x).2 : Nat) : Int) ∧ (sp x).1 + (sp x).2 ≤ m ∧ (sp x).2 < 512) ∧
  (∀ x y, x < y → y < n → (sp x).1 + (sp x).2 ≤ (sp y).1) ∧
  (∀ j, j < m → (∀ z, z < n → Rz z → (sp z).1 ≤ j → (sp z).1 + (sp z).2 ≤ j) → (0 ≤ hpt T H (j : Int) ∧ hpt T H (j : Int) < n) ∧ ∃ s, hla T H (j : Int) = some s ∧ StrY B H s (lb j) ∧ (lb j).length ≤ 200) ∧
  (∀ x, x < n → G.1 x = x → ¬ Rz x → HNode T ν H lb (G.2 x) (fl x) (sp x).1 (sp x).2 x) ∧
  (∀ z, Rz z → z < n ∧ G.1 z = z ∧ G.2 z = (false, .inl 0) ∧ hti T H z < 0) ∧ ∀ x y, x < n → G.1 x = x → ¬ Rz x → (∃ l, (l, y) ∈ tkids (G.2 x)) → ¬ Rz (G.1 y)
section HGraph
variable {B : Nat → Prop} {T : Nat → Nat} {ν : Hmp} {H H' H2 : YS} {C : YC} {d f k j n m x a z : Nat} {fs as fs' as' : List Nat} {v w i y : Int} {Q : Option (Option ZV) → YS → Prop} {r s : Option Nat} {G G' : TG} {fl : Nat → Yfl} {sp : Nat → Nat × Nat} {lb : Nat → List Int} {Rz : Nat → Prop} {N : TN} {b : Yfl}
/-- where it is linked to, in one go -/
theorem HG_lk (h : HG B T ν H G n m fl sp lb Rz) : ∃ dp : Nat → Nat, ∀ x, x < n → (hti T H x < 0 ∧ G.1 x = x) ∨ (0 ≤ hti T H x ∧ ∃ y : Nat, hti T H x = (y : Int) ∧ y < n ∧ G.1 y = G.1 x ∧ dp y < dp x) := by
  obtain ⟨_, ⟨⟨dp, h3⟩, _⟩, _⟩ := h
  refine ⟨dp, fun x hx => ?_⟩
  have h3 := h3 x hx
  unfold hlk at h3
  by_cases e : 0 ≤ hti T H x
  · rw [if_pos e] at h3
    rcases h3 with ⟨q, _⟩ | ⟨y, q1, q2, q3, q4⟩
    · cases q
    · have : (hti T H x).toNat = y := Option.some.inj q1
      exact Or.inr ⟨e, y, by omega, q2, q3, q4⟩
  · rw [if_neg e] at h3
    rcases h3 with ⟨_, q⟩ | ⟨y, q1, _⟩
    · exact Or.inl ⟨by omega, q⟩
    · cases q1
theorem HG_wf1 (h : HG B T ν H G n m fl sp lb Rz) (hx : x < n) : G.1 x < n ∧ G.1 (G.1 x) = G.1 x ∧ hti T H (G.1 x) < 0 := by
  obtain ⟨h1, h2, h3⟩ := LkO_rt h.2.1.1 x hx
  refine ⟨h1, h3, ?_⟩
  unfold hlk at h2
  split at h2
  · cases h2
  · omega
theorem HG_root (h : HG B T ν H G n m fl sp lb Rz) (hx : x < n) : G.1 x = x ↔ hti T H x < 0 := by
  obtain ⟨dp, h3⟩ := HG_lk h
  constructor
  · intro e; have := (HG_wf1 h hx).2.2; rwa [e] at this
  · intro e
    rcases h3 x hx with ⟨_, q⟩ | ⟨q, _⟩
    · exact q
    · omega
theorem HG_x (h : HG B T ν H G n m fl sp lb Rz) (hx : x < n) : 0 ≤ (x : Int) ∧ (x : Int) < 60000 := by
  have := h.1.2.2.1
  omega
theorem HG_sp (h : HG B T ν H G n m fl sp lb Rz) (hx : x < n) : (sp x).1 + (sp x).2 ≤ 150000 ∧ (sp x).2 < 512 ∧ hsp T H x = ((512 * (sp x).1 + (sp x).2 : Nat) : Int) := by
  obtain ⟨_, _, q1, q2, q3⟩ := h.2.2.1 x hx
  exact ⟨by have := h.1.2.2.2; omega, q3, q1⟩
/-- only where links lead differs -/
def HLk (T : Nat → Nat) (H H' : YS) : Prop := hAg T [] [3] H H' ∧ ∀ z : Nat, (hti T H z < 0 → hti T H' z = hti T H z) ∧ (0 ≤ hti T H z → 0 ≤ hti T H' z)
theorem HLk_refl : HLk T H H := ⟨hAg_refl, fun _ => ⟨fun _ => rfl, fun h => h⟩⟩
theorem HLk_trans (h : HLk T H H') (h' : HLk T H' H2) : HLk T H H2 := ⟨hAg_trans h.1 h'.1, fun z => ⟨fun hz => by rw [(h'.2 z).1 (by rw [(h.2 z).1 hz]; exact hz), (h.2 z).1 hz], fun hz => (h'.2 z).2 ((h.2 z).2 hz)⟩⟩
theorem hkd_eq {key : Nat → Ky} (e : ∀ i, i < k → hpt T H' ((a + i : Nat) : Int) = hpt T H ((a + i : Nat) : Int)) : hkd T H' key a k = hkd T H key a k := List.map_congr_left fun i hi => by rw [e i (List.mem_range.mp hi)]
theorem HNode_eq (ht : hti T H' x = hti T H x) (hf : hin T H 1219 ≤ hin T H' 1219) (hp : ∀ i, i < k → hpt T H' ((a + i : Nat) : Int) = hpt T H ((a + i : Nat) : Int)) (h : HNode T ν H lb N b a k x) : HNode T ν H' lb N b a k x := by
  unfold HNode at h ⊢
  rw [hkd_eq hp, hkd_eq hp, ht]
  rcases h with h | ⟨h1, h2, f, h3, h4, h5⟩ | h | h | h
  · exact Or.inl h
  · exact Or.inr (Or.inl ⟨h1, h2, f, h3, by omega, h5⟩)
  · exact Or.inr (Or.inr (Or.inl h))
  · exact Or.inr (Or.inr (Or.inr (Or.inl h)))
  · exact Or.inr (Or.inr (Or.inr (Or.inr h)))
/-- the rows that the graph reads -/
theorem HG_ag (hT : HtA T H) (h : HG B T ν H G n m fl sp lb Rz) (ha : hAg T fs as H H') (hf : 1211 ∉ fs ∧ 1212 ∉ fs ∧ 1219 ∉ fs) (hs : ∀ a ∈ as, a ∈ [4, 5, 8, 9, 10, 21, 22, 28]) : HG B T ν H' G n m fl sp lb Rz := by
  have h1 : ∀ a ∈ as, a ∈ tRw ∧ a ≠ 18 := fun a m => (by decide : ∀ a ∈ [4, 5, 8, 9, 10, 21, 22, 28], a ∈ tRw ∧ a ≠ 18) a (hs a m)
  have hn : ∀ k ∈ [1, 2, 3, 6, 7], k ∉ as := fun k hk m => (by decide : ∀ k ∈ [1, 2, 3, 6, 7], k ∉ [4, 5, 8, 9, 10, 21, 22, 28]) k hk (hs k m)
  have e : ∀ k ∈ [1, 2, 3, 6], yA H' (T k) = yA H (T k) := fun k hk => hAg_a hT ((by decide : ∀ k ∈ [1, 2, 3, 6], k ∈ tRw) k hk) (fun a m => (h1 a m).1) (hn k ((by decide : ∀ k ∈ [1, 2, 3, 6], k ∈ [1, 2, 3, 6, 7]) k hk)) ha
  have e1 : hfl T H' = hfl T H := e 1 (by decide)
  have e2 : hsp T H' = hsp T H := e 2 (by decide)
  have e3 : hti T H' = hti T H := e 3 (by decide)
  have e6 : hpt T H' = hpt T H := e 6 (by decide)
  have e7 : hla T H' = hla T H := hAg_b (hn 7 (by decide)) ha
  have f1 := hAg_f hf.1 ha
  have f2 := hAg_f hf.2.1 ha
  have f3 := hAg_f hf.2.2 ha
  obtain ⟨g1, g2, g3, g4, g5, g6, g7⟩ := h
  refine ⟨by rw [f1, f2]; exact g1, ?_, fun x hx => by rw [e1, e2]; exact g3 x hx, g4, fun j hj hz => ?_, fun x hx hr hz => HNode_eq (by rw [e3]) (by rw [f3]; exact Int.le_refl _) (fun i _ => by rw [e6]) (g6 x hx hr hz), by rw [e3]; exact g7⟩
  · rw [e3]
    have : hlk T H' = hlk T H := by unfold hlk; rw [e3]
    rw [this]; exact g2
  · obtain ⟨q1, s, q2, q3, q4⟩ := g5 j hj hz
    rw [e6, e7]
    exact ⟨q1, s, q2, hAg_StrY hT h1 ha q3, q4⟩
theorem HG_lk' (hT : HtA T H) (h : HG B T ν H G n m fl sp lb Rz) (hl : HLk T H H') (hd : ∃ dp : Nat → Nat, ∀ x, x < n → (hti T H x < 0 ∧ G.1 x = x) ∨ (0 ≤ hti T H x ∧ ∃ y : Nat, hti T H' x = (y : Int) ∧ y < n ∧ G.1 y = G.1 x ∧ dp y < dp x)) : HG B T ν H' G n m fl sp lb Rz := by
  obtain ⟨dp, hd⟩ := hd
  have ha := hl.1
  have e : ∀ k ∈ [1, 2, 6], yA H' (T k) = yA H (T k) := fun k hk => hAg_a (as := [3]) hT ((by decide : ∀ k ∈ [1, 2, 6], k ∈ tRw) k hk) (by decide) ((by decide : ∀ k ∈ [1, 2, 6], k ∉ [3]) k hk) ha
  have e1 : hfl T H' = hfl T H := e 1 (by decide)
  have e2 : hsp T H' = hsp T H := e 2 (by decide)
  have e6 : hpt T H' = hpt T H := e 6 (by decide)
  have e7 : hla T H' = hla T H := hAg_b (by decide) ha
  have f : ∀ g, hin T H' g = hin T H g := fun g => hAg_f (fs := []) (by simp) ha
  have hroot : ∀ x, x < n → G.1 x = x → hti T H x < 0 := fun x hx hr => (HG_root h hx).mp hr
  obtain ⟨g1, g2, g3, g4, g5, g6, g7, g8⟩ := h
  refine ⟨by rw [f, f]; exact g1, ⟨⟨dp, fun x hx => ?_⟩, fun x hx => ?_⟩, fun x hx => by rw [e1, e2]; exact g3 x hx, g4, fun j hj hz => ?_, fun x hx hr hz => HNode_eq ((hl.2 x).1 (hroot x hx hr)) (by rw [f]; exact Int.le_refl _) (fun i _ => by rw [e6]) (g6 x hx hr hz), fun z hz => ⟨(g7 z hz).1, (g7 z hz).2.1, (g7 z hz).2.2.1, by rw [(hl.2 z).1 (g7 z hz).2.2.2]; exact (g7 z hz).2.2.2⟩, g8⟩
  · unfold hlk
    rcases hd x hx with ⟨p1, p2⟩ | ⟨p1, p2, p3, p4⟩
    · exact Or.inl ⟨if_neg (by rw [(hl.2 x).1 p1]; omega), p2⟩
    · refine Or.inr ⟨p2, ?_, p4⟩
      rw [p3, if_pos (by omega)]; rfl
  · rcases hd x hx with ⟨p1, p2⟩ | ⟨p1, p2, p3, p4⟩
    · rw [(hl.2 x).1 p1]; exact g2.2 x hx
    · rw [p3]; omega
  · obtain ⟨q1, s, q2, q3, q4⟩ := g5 j hj hz
    rw [e6, e7]
    exact ⟨q1, s, q2, hAg_StrY (as := [3]) hT (by decide) ha q3, q4⟩
/-- root -/
theorem h_root_b (hT : HtA T H) (h : HG B T ν H G n m fl sp lb Rz) {dp : Nat → Nat} : ∀ k (S1 : YS) (y : Nat), dp y < k → y < n → HLk T H S1 → (∀ x, x < n → (hti T H x < 0 ∧ G.1 x = x) ∨ (0 ≤ hti T H x ∧ ∃ y : Nat, hti T S1 x = (y : Int) ∧ y < n ∧ G.1 y = G.1 x ∧ dp y < dp x)) → (∀ S', HLk T H S' → (∃ dp : Nat → Nat, ∀ x, x < n → (hti T H x < 0 ∧ G.1 x = x) ∨ (0 ≤ hti T H x ∧ ∃ y : Nat, hti T S' x = (y : Int) ∧ y < n ∧ G.1 y = G.1 x ∧ dp y < dp x)) → Q (some (some (.inl (G.1 y : Nat)))) S') → zW (YL C d 774 [zr (T 0), .inl (G.1 y : Nat), .inl (y : Int)] S1) Q := by
  intro k
  induction k with
  | zero => intro S1 y hk; omega
  | succ k ih =>
    intro S1 y hk hy hl hd hq
    have hT1 := HtA_ag hT hl.1
    have ix := HG_x h hy
    refine yl_Types_root_p23 ?_
    unfold yb_Types_root_p23
    refine zW_rd 3 hT1 (by decide) ix (zW_if (fun e => ?_) (fun e => ?_))
    · exact zW_rI (hq S1 hl ⟨dp, hd⟩)
    · have e : ¬ hti T S1 y < 0 := e
      rcases hd y hy with ⟨q, _⟩ | ⟨q0, y', q1, q2, q3, q4⟩
      · exact absurd (by rw [(hl.2 y).1 q]; exact q) e
      · refine zW_rd 3 hT1 (by decide) ix (zW_let (zW_hw 3 hT1 (by decide) ix (zW_let ?_)))
        have q1 : yA S1 (T 3) (y : Int) = (y' : Int) := q1
        rw [q1]
        have hr := HG_wf1 h hy
        have hne : G.1 y ≠ y := fun q => by have := hr.2.2; rw [q] at this; omega
        have hs : hti T (yset S1 (T 3) (y : Int) (G.1 y : Nat)) = fun z => if z = (y : Int) then ((G.1 y : Nat) : Int) else hti T S1 z := hset_s
        have key : ∀ z : Nat, z ≠ y → hti T (yset S1 (T 3) (y : Int) (G.1 y : Nat)) z = hti T S1 z := fun z hz => by rw [hs]; exact if_neg (fun w => hz (by omega))
        have key2 : hti T (yset S1 (T 3) (y : Int) (G.1 y : Nat)) y = (G.1 y : Nat) := by rw [hs]; exact if_pos rfl
        rw [← q3]
        refine ih _ y' (by omega) q2 ⟨?_, fun z => ?_⟩ (fun x hx => ?_) (fun S' w1 w2 => ?_)
        · exact hAg_set (by decide) hl.1
        · rw [q3]
          by_cases zy : z = y
          · rw [zy, key2]; exact ⟨fun q => by omega, fun _ => by omega⟩
          · rw [key z zy]; exact hl.2 z
        · rcases hd x hx with w | ⟨w1, w2, w3, w4, w5, w6⟩
          · exact Or.inl w
          · by_cases xy : x = y
            · subst xy
              refine Or.inr ⟨q0, G.1 x, by rw [q3]; exact key2, hr.1, hr.2.1, ?_⟩
              have hdl := LkO_dp (lk := fun x => if 0 ≤ hti T H x then some (hti T S1 x).toNat else none) (rt := G.1) (n := n) (dp := dp) (fun z hz => ?_) x hx
              · exact hdl.resolve_left hne
              · rcases hd z hz with ⟨p1, p2⟩ | ⟨p1, p2, p3, p4⟩
                · exact Or.inl ⟨if_neg (by omega), p2⟩
                · refine Or.inr ⟨p2, ?_, p4⟩
                  show (if 0 ≤ hti T H z then _ else _) = _
                  rw [if_pos p1, p3]; rfl
            · exact Or.inr ⟨w1, w2, by rw [q3, key x xy]; exact w3, w4, w5, w6⟩
        · rw [q3]; exact hq S' w1 w2
theorem h_root_a {x1 : Int} (hT : HtA T H) (h : HG B T ν H G n m fl sp lb Rz) {dp : Nat → Nat} (hd : ∀ x, x < n → (hti T H x < 0 ∧ G.1 x = x) ∨ (0 ≤ hti T H x ∧ ∃ y : Nat, hti T H x = (y : Int) ∧ y < n ∧ G.1 y = G.1 x ∧ dp y < dp x)) : ∀ k (y : Nat), dp y < k → y < n → zW (YL C d 774 [zr (T 0), .inl (G.1 y : Nat), .inl x1] H) Q → zW (YL C d 536 [zr (T 0), .inl x1, .inl (y : Int)] H) Q := by
  intro k
  induction k with
  | zero => intro y hk; omega
  | succ k ih =>
    intro y hk hy hq
    have hx := HG_x h hy
    refine yl_Types_root_p2 ?_
    unfold yb_Types_root_p2
    refine zW_rd 3 hT (by decide) hx (zW_if (fun e => ?_) (fun e => ?_))
    · rcases hd y hy with ⟨_, q⟩ | ⟨q, _⟩
      · rw [q] at hq; exact zW_let hq
      · have e : hti T H y < 0 := e
        omega
    · rcases hd y hy with ⟨q, _⟩ | ⟨_, y', q1, q2, q3, q4⟩
      · exact absurd q e
      · refine zW_rd 3 hT (by decide) hx (zW_let ?_)
        have q1 : yA H (T 3) (y : Int) = (y' : Int) := q1
        rw [q1]
        exact ih y' (by omega) q2 (by rw [q3]; exact hq)
theorem h_root (hT : HtA T H) (h : HG B T ν H G n m fl sp lb Rz) (hx : x < n) : ∃ H', YL C d 56 [zr (T 0), .inl (x : Int)] H = some (some (some (.inl (G.1 x : Nat))), H') ∧ HLk T H H' ∧ HG B T ν H' G n m fl sp lb Rz := by
  obtain ⟨dp, hd⟩ := HG_lk h
  have : zW (YL C d 56 [zr (T 0), .inl (x : Int)] H) (fun o H' => o = some (some (.inl (G.1 x : Nat))) ∧ HLk T H H' ∧ HG B T ν H' G n m fl sp lb Rz) := by
    refine yl_Types_root ?_
    unfold yb_Types_root
    refine zW_let (h_root_a hT h hd _ x (Nat.lt_succ_self _) hx ?_)
    exact h_root_b hT h _ H x (Nat.lt_succ_self _) hx HLk_refl hd (fun H' w1 w2 => ⟨rfl, w1, HG_lk' hT h w1 w2⟩)
  obtain ⟨o, H', e, rfl, q⟩ := this
  exact ⟨H', e, q⟩
theorem HLk_T (hT : HtA T H) (h : HLk T H H') : HtA T H' := HtA_ag hT h.1
theorem HLk_a (hT : HtA T H) (h : HLk T H H') (hk : k ∈ tRw) (h3 : k ≠ 3) : yA H' (T k) = yA H (T k) := hAg_a (as := [3]) hT hk (by decide) (by simpa using h3) h.1
theorem HLk_f (h : HLk T H H') : hin T H' f = hin T H f := hAg_f (by simp) h.1
end HGraph
