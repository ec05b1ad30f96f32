set_option maxRecDepth 100000
/-! THE REFERENCE'S TYPES: places in rows, as a graph -/
abbrev Zfl : Type := Bool × Bool × Bool × Bool × Bool
/-- flags: equality, ordered, general, loose, done -/
def zfb (b : Zfl) : Int := bI b.1 + 2 * bI b.2.1 + 4 * bI b.2.2.1 + 8 * bI b.2.2.2.1 + 16 * bI b.2.2.2.2
abbrev zyk (S : ZS) (x : Int) : Int := S.2.2.1 23 x
abbrev zyf (S : ZS) (x : Int) : Int := S.2.2.1 24 x
abbrev zyc (S : ZS) (x : Int) : Int := S.2.2.1 25 x
abbrev zy1 (S : ZS) (x : Int) : Int := S.2.2.1 26 x
abbrev zfl (S : ZS) (x : Int) : Int := S.2.2.1 29 x
abbrev zft (S : ZS) (x : Int) : Int := S.2.2.1 30 x
abbrev zfn (S : ZS) (x : Int) : Int := S.2.2.1 31 x
/-- what constructors and labels mean, which names of variables admit equality, which variables do, parts of constructors, how many of these, which labels are -/
abbrev Zmp : Type := (Nat → Nat) × (Int → Ky) × (Int → Bool) × (Nat → Bool) × (Nat → Nat) × Nat × (Int → Bool)
abbrev mC (μ : Zmp) : Nat → Nat := μ.1
abbrev mK (μ : Zmp) : Int → Ky := μ.2.1
abbrev mE (μ : Zmp) : Int → Bool := μ.2.2.1
abbrev mR (μ : Zmp) : Nat → Bool := μ.2.2.2.1
abbrev mA (μ : Zmp) : Nat → Nat := μ.2.2.2.2.1
abbrev mT (μ : Zmp) : Nat := μ.2.2.2.2.2.1
abbrev mL (μ : Zmp) : Int → Bool := μ.2.2.2.2.2.2
def Mok (μ : Zmp) : Prop := (mC μ 0 = 0 ∧ mC μ 1 = 3 ∧ mC μ 2 = 6 ∧ mC μ 6 = 18 ∧ mC μ 7 = 5) ∧ (∀ c, mC μ c % 3 = 0 ∨ mC μ c = 5) ∧ (∀ c c', c < mT μ → c' < mT μ → mC μ c = mC μ c' → c = c') ∧ (mA μ 0 = 0 ∧ mA μ 1 = 0 ∧ mA μ 2 = 0 ∧ 8 ≤ mT μ) ∧ ∀ l l', mL μ l = true → mL μ l' = true → mK μ l = mK μ l' → l = l'
/-- a row of parts -/
def ZCh (S : ZS) : List Nat → Int → Prop
  | [], x => x = -1
  | f :: F, x => x = (f : Int) ∧ (f : Int) < S.1 67 ∧ 0 ≤ zft S f ∧ ZCh S F (zfn S f)
def zkd (S : ZS) (key : Int → Ky) (F : List Nat) : List (Ky × Nat) := F.map fun (f : Nat) => (key (zfl S f), (zft S f).toNat)
/-- labels go up -/
def zsrt (S : ZS) : List Nat → Prop
  | [] => True
  | f :: F => (∀ g ∈ F, zfl S f < zfl S g) ∧ zsrt S F
def kA : Int → Ky := fun l => [l]
def ZNode (S : ZS) (μ : Zmp) (N : TN) (F : List Nat) (b : Zfl) (x : Int) : Prop :=
  (zyk S x = 0 ∧ N = (b.1, .inl (if b.2.1 then 1 else 0)) ∧ F = []) ∨
  (zyk S x = 1 ∧ (∃ i, N = (mE μ (zyc S x) || b.1, .inl (i + 2)) ∧ mR μ i = mE μ (zyc S x)) ∧ F = []) ∨
  (zyk S x = 2 ∧ (0 ≤ zyc S x ∧ zyc S x < mT μ) ∧ N = (b.1, .inr (mC μ (zyc S x).toNat, false, zkd S kA F)) ∧ ZCh S F (zy1 S x) ∧ F.map (zfl S ∘ Nat.cast) = (List.range (mA μ (zyc S x).toNat)).map Nat.cast) ∨
  (zyk S x = 3 ∧ 0 ≤ zyc S x ∧ N = (b.1, .inr (2, b.2.2.2.1, zkd S (mK μ) F)) ∧ ZCh S F (zy1 S x) ∧ zsrt S F ∧ ∀ f ∈ F, mL μ (zfl S f) = true)
def zlk (S : ZS) : Nat → Option Nat := fun x => if zyk S x = 4 then some (zyc S x).toNat else none
def ZG (S : ZS) (μ : Zmp) (G : TG) (n : Nat) (fl : Nat → List Nat) (B : Nat → Zfl) (R : Nat → Prop) : Prop :=
  S.1 66 = (n : Int) ∧ (0 ≤ S.1 67 ∧ n ≤ 57000 ∧ S.1 67 ≤ 106000) ∧ (LkO (zlk S) G.1 n ∧ ∀ x, x < n → zyk S x = 4 → 0 ≤ zyc S x) ∧ (∀ x, x < n → zyf S x = zfb (B x)) ∧ (∀ x, x < n → G.1 x = x → ZNode S μ (G.2 x) (fl x) (B x) x) ∧ (∀ x y, x < n → y < n → G.1 x = x → G.1 y = y → x ≠ y → ∀ f ∈ fl x, f ∉ fl y) ∧ (∀ f, R f → (f : Int) < S.1 67) ∧ ∀ f, R f → ∀ x, x < n → G.1 x = x → f ∉ fl x
section ZTy
variable {d : Nat} {S S' : ZS} {μ : Zmp} {G G' : TG} {n n' x y z : Nat} {fl fl' : Nat → List Nat} {B B' : Nat → Zfl} {b : Zfl} {F : List Nat} {N : TN} {Q : Option (Option ZV) → ZS → Prop} {i v w : Int} {R R' : Nat → Prop}
theorem zfb_in : 0 ≤ zfb b ∧ zfb b ≤ 31 := by
  obtain ⟨e, o, g, l, q⟩ := b
  cases e <;> cases o <;> cases g <;> cases l <;> cases q <;> decide
theorem zfb_1 : zandI (zfb b) 1 = bI b.1 := by
  obtain ⟨e, o, g, l, q⟩ := b
  cases e <;> cases o <;> cases g <;> cases l <;> cases q <;> decide
theorem zfb_2 : zandI (zfb b) 2 = 2 * bI b.2.1 := by
  obtain ⟨e, o, g, l, q⟩ := b
  cases e <;> cases o <;> cases g <;> cases l <;> cases q <;> decide
theorem zfb_4 : zandI (zfb b) 4 = 4 * bI b.2.2.1 := by
  obtain ⟨e, o, g, l, q⟩ := b
  cases e <;> cases o <;> cases g <;> cases l <;> cases q <;> decide
theorem zfb_8 : zandI (zfb b) 8 = 8 * bI b.2.2.2.1 := by
  obtain ⟨e, o, g, l, q⟩ := b
  cases e <;> cases o <;> cases g <;> cases l <;> cases q <;> decide
theorem zfb_16 : zandI (zfb b) 16 = 16 * bI b.2.2.2.2 := by
  obtain ⟨e, o, g, l, q⟩ := b
  cases e <;> cases o <;> cases g <;> cases l <;> cases q <;> decide
theorem zfb_17 : zandI (zfb b) 17 = bI b.1 + 16 * bI b.2.2.2.2 := by
  obtain ⟨e, o, g, l, q⟩ := b
  cases e <;> cases o <;> cases g <;> cases l <;> cases q <;> decide
theorem zfb_e : zbyte (zandI (zorI (zfb b) 1) (-17)) = zfb (true, b.2.1, b.2.2.1, b.2.2.2.1, false) := by
  obtain ⟨e, o, g, l, q⟩ := b
  cases e <;> cases o <;> cases g <;> cases l <;> cases q <;> decide
theorem zfb_o {c : Zfl} : zbyte (zorI (zfb b) (zandI (zfb c) 2)) = zfb (b.1, b.2.1 || c.2.1, b.2.2) := by
  rw [zfb_2]
  obtain ⟨e, o, g, l, q⟩ := b
  obtain ⟨e', o', r⟩ := c
  show zbyte (zorI (zfb (e, o, g, l, q)) (2 * bI o')) = zfb (e, o || o', g, l, q)
  clear r e'
  cases e <;> cases o <;> cases g <;> cases l <;> cases q <;> cases o' <;> decide
theorem zfb_oe {c : Zfl} : zandI (zorI (zfb b) (zfb c)) 1 = bI (b.1 || c.1) := by
  obtain ⟨e, o, g, l, q⟩ := b
  obtain ⟨e', o', g', l', q'⟩ := c
  cases e <;> cases o <;> cases g <;> cases l <;> cases q <;> cases e' <;> cases o' <;> cases g' <;> cases l' <;> cases q' <;> decide
theorem zfb_l : zbyte (zandI (zfb b) (-9)) = zfb (b.1, b.2.1, b.2.2.1, false, b.2.2.2.2) := by
  obtain ⟨e, o, g, l, q⟩ := b
  cases e <;> cases o <;> cases g <;> cases l <;> cases q <;> decide
theorem zfb_se : zbyte (zorI (zfb b) 1) = zfb (true, b.2) := by
  obtain ⟨e, o, g, l, q⟩ := b
  cases e <;> cases o <;> cases g <;> cases l <;> cases q <;> decide
theorem zfb_sg : zbyte (zorI (zfb b) 4) = zfb (b.1, b.2.1, true, b.2.2.2) := by
  obtain ⟨e, o, g, l, q⟩ := b
  cases e <;> cases o <;> cases g <;> cases l <;> cases q <;> decide
theorem zfb_sd : zbyte (zorI (zfb b) 16) = zfb (b.1, b.2.1, b.2.2.1, b.2.2.2.1, true) := by
  obtain ⟨e, o, g, l, q⟩ := b
  cases e <;> cases o <;> cases g <;> cases l <;> cases q <;> decide
theorem zfb_nd : zandI (zfb b) (-17) = zfb (b.1, b.2.1, b.2.2.1, b.2.2.2.1, false) := by
  obtain ⟨e, o, g, l, q⟩ := b
  cases e <;> cases o <;> cases g <;> cases l <;> cases q <;> decide
theorem zfb_3 : zandI (zfb b) 3 = bI b.1 + 2 * bI b.2.1 := by
  obtain ⟨e, o, g, l, q⟩ := b
  cases e <;> cases o <;> cases g <;> cases l <;> cases q <;> decide
theorem zfb_byte : zbyte (zfb b) = zfb b := by
  obtain ⟨e, o, g, l, q⟩ := b
  cases e <;> cases o <;> cases g <;> cases l <;> cases q <;> decide
theorem zbI_0 {c : Bool} : bI c = 0 ↔ c = false := by cases c <;> decide
/-- where it is linked to, in one go -/
theorem ZG_lk (h : ZG S μ G n fl B R) : ∃ dp : Nat → Nat, ∀ x, x < n → (zyk S x ≠ 4 ∧ G.1 x = x) ∨ (zyk S x = 4 ∧ ∃ y : Nat, zyc S x = (y : Int) ∧ y < n ∧ G.1 y = G.1 x ∧ dp y < dp x) := by
  obtain ⟨_, _, ⟨⟨dp, h3⟩, h4⟩, _⟩ := h
  refine ⟨dp, fun x hx => ?_⟩
  have h3 := h3 x hx
  unfold zlk at h3
  by_cases e : zyk S x = 4
  · rw [if_pos e] at h3
    rcases h3 with ⟨q, _⟩ | ⟨y, q1, q2, q3, q4⟩
    · cases q
    · have := h4 x hx e
      refine Or.inr ⟨e, y, ?_, q2, q3, q4⟩
      have : (zyc S x).toNat = y := Option.some.inj q1
      omega
  · rw [if_neg e] at h3
    rcases h3 with ⟨_, q⟩ | ⟨y, q1, _⟩
    · exact Or.inl ⟨e, q⟩
    · cases q1
theorem ZG_wf1 (h : ZG S μ G n fl B R) (hx : x < n) : G.1 x < n ∧ G.1 (G.1 x) = G.1 x ∧ zyk S (G.1 x) ≠ 4 := by
  obtain ⟨h1, h2, h3⟩ := LkO_rt h.2.2.1.1 x hx
  refine ⟨h1, h3, fun q => ?_⟩
  unfold zlk at h2
  rw [if_pos q] at h2; cases h2
theorem ZG_root (h : ZG S μ G n fl B R) (hx : x < n) : G.1 x = x ↔ zyk S x ≠ 4 := by
  obtain ⟨dp, h3⟩ := ZG_lk h
  constructor
  · intro e; have := (ZG_wf1 h hx).2.2; rwa [e] at this
  · intro e
    rcases h3 x hx with ⟨_, q⟩ | ⟨q, _⟩
    · exact q
    · exact absurd q e
/-- only where links lead differs -/
def ZLk (S S' : ZS) : Prop := zAg [] [25] S S' ∧ ∀ z : Nat, zyk S z ≠ 4 → zyc S' z = zyc S z
theorem ZLk_refl : ZLk S S := ⟨zAg_refl, fun _ _ => rfl⟩
theorem ZLk_k (h : ZLk S S') : zyk S' = zyk S := h.1.2.2.1 23 (by decide)
theorem ZLk_trans {S'' : ZS} (h : ZLk S S') (h' : ZLk S' S'') : ZLk S S'' := ⟨zAg_trans h.1 h'.1, fun z hz => by rw [h'.2 z (by rw [ZLk_k h]; exact hz), h.2 z hz]⟩
theorem ZCh_eq (h67 : S.1 67 ≤ S'.1 67) : ∀ {F : List Nat} {x : Int}, (∀ f ∈ F, zft S' f = zft S f ∧ zfn S' f = zfn S f) → ZCh S F x → ZCh S' F x
  | [], _, _, h => h
  | f :: F, x, e, h => by
    obtain ⟨h1, h2, h3, h4⟩ := h
    have q := e f (List.mem_cons_self ..)
    exact ⟨h1, by omega, by rw [q.1]; exact h3, by rw [q.2]; exact ZCh_eq h67 (fun g hg => e g (List.mem_cons_of_mem _ hg)) h4⟩
theorem zkd_eq {key : Int → Ky} (e : ∀ f ∈ F, zfl S' f = zfl S f ∧ zft S' f = zft S f) : zkd S' key F = zkd S key F := List.map_congr_left fun f hf => by rw [(e f hf).1, (e f hf).2]
theorem zsrt_eq : ∀ {F : List Nat}, (∀ f ∈ F, zfl S' f = zfl S f) → zsrt S F → zsrt S' F
  | [], _, _ => trivial
  | f :: F, e, h => ⟨fun g hg => by rw [e f (List.mem_cons_self ..), e g (List.mem_cons_of_mem _ hg)]; exact h.1 g hg, zsrt_eq (fun g hg => e g (List.mem_cons_of_mem _ hg)) h.2⟩
theorem ZNode_eq (h67 : S.1 67 ≤ S'.1 67) (hk : zyk S' x = zyk S x) (hc : zyc S' x = zyc S x) (h1 : zy1 S' x = zy1 S x) (hf : ∀ f ∈ F, zfl S' f = zfl S f ∧ zft S' f = zft S f ∧ zfn S' f = zfn S f) (h : ZNode S μ N F b x) : ZNode S' μ N F b x := by
  have hf1 : ∀ f ∈ F, zft S' f = zft S f ∧ zfn S' f = zfn S f := fun f m => (hf f m).2
  have hf2 : ∀ f ∈ F, zfl S' f = zfl S f ∧ zft S' f = zft S f := fun f m => ⟨(hf f m).1, (hf f m).2.1⟩
  have hf3 : ∀ f ∈ F, zfl S' f = zfl S f := fun f m => (hf f m).1
  unfold ZNode at h ⊢
  rw [hk, hc, h1, zkd_eq hf2, zkd_eq hf2]
  rcases h with h | h | ⟨a, b, c, e, g⟩ | ⟨a, b, c, e, g, i⟩
  · exact Or.inl h
  · exact Or.inr (Or.inl h)
  · exact Or.inr (Or.inr (Or.inl ⟨a, b, c, ZCh_eq h67 hf1 e, by rw [← g]; exact List.map_congr_left hf3⟩))
  · exact Or.inr (Or.inr (Or.inr ⟨a, b, c, ZCh_eq h67 hf1 e, zsrt_eq hf3 g, fun f m => by rw [hf3 f m]; exact i f m⟩))
theorem zyk_of (h : zAg [] [25] S S') : zyk S' = zyk S := h.2.2.1 23 (by decide)
/-- find -/
theorem z_find_b {x1 : Int} (h : ZG S μ G n fl B R) {dp : Nat → Nat} : ∀ k (S1 : ZS) (y : Nat), dp y < k → y < n → ZLk S S1 → (∀ x, x < n → (zyk S x ≠ 4 ∧ G.1 x = x) ∨ (zyk S x = 4 ∧ ∃ y : Nat, zyc S1 x = (y : Int) ∧ y < n ∧ G.1 y = G.1 x ∧ dp y < dp x)) → (∀ S', ZLk S S' → (∃ dp : Nat → Nat, ∀ x, x < n → (zyk S x ≠ 4 ∧ G.1 x = x) ∨ (zyk S x = 4 ∧ ∃ y : Nat, zyc S' x = (y : Int) ∧ y < n ∧ G.1 y = G.1 x ∧ dp y < dp x)) → Q (some (some (.inl (G.1 y : Nat)))) S') → zW (ZL d 583 [.inl (G.1 y : Nat), .inl (y : Int)] S1) Q := by
  have hn := h.2.1.2.1
  intro k
  induction k with
  | zero => intro S1 y hk; omega
  | succ k ih =>
    intro S1 y hk hy hl hd hq
    refine zl_find_p24 ?_
    unfold zb_find_p24
    refine zW_a (by omega) (zW_if (fun e => ?_) (fun e => ?_))
    · refine zW_a (by omega) (zW_if (fun e2 => ?_) (fun e2 => ?_))
      · exact zW_rI (hq S1 hl ⟨dp, hd⟩)
      · have e : zyk S y = 4 := by rw [← zyk_of hl.1]; exact e
        rcases hd y hy with ⟨q, _⟩ | ⟨_, y', q1, q2, q3, q4⟩
        · exact absurd e q
        · refine zW_a (by omega) (zW_let (zW_st (by omega) (zW_let ?_)))
          have q1 : S1.2.2.1 25 (y : Int) = (y' : Int) := q1
          rw [q1] at e2 ⊢
          have hr := (ZG_wf1 h hy)
          have hne : G.1 y ≠ y := fun q => hr.2.2 (by rw [q]; exact e)
          have key : ∀ z : Nat, z ≠ y → zyc (zset S1 25 y (G.1 y : Nat)) z = zyc S1 z := fun z hz => by
            show (if 25 = 25 ∧ (z : Int) = (y : Int) then _ else _) = _
            rw [if_neg (fun w => hz (by omega))]
          have key2 : zyc (zset S1 25 y (G.1 y : Nat)) y = (G.1 y : Nat) := if_pos ⟨rfl, rfl⟩
          rw [← q3]
          refine ih _ y' (by omega) q2 ⟨?_, fun z hz => ?_⟩ (fun x hx => ?_) (fun S' w1 w2 => ?_)
          · rw [q3]; exact zAg_set (by decide) hl.1
          · rw [q3]
            have : z ≠ y := fun w => hz (by rw [w]; exact e)
            rw [key z this]; exact hl.2 z hz
          · rcases hd x hx with w | ⟨w1, w2, w3, w4, w5, w6⟩
            · exact Or.inl w
            · by_cases xy : x = y
              · subst xy
                refine Or.inr ⟨e, G.1 x, by rw [q3]; exact key2, hr.1, hr.2.1, ?_⟩
                have hdl := LkO_dp (lk := fun x => if zyk S x = 4 then some (zyc S1 x).toNat else none) (rt := G.1) (n := n) (dp := dp) (fun z hz => ?_) x hx
                · exact hdl.resolve_left hne
                · rcases hd z hz with ⟨p1, p2⟩ | ⟨p1, p2, p3, p4⟩
                  · exact Or.inl ⟨if_neg p1, p2⟩
                  · refine Or.inr ⟨p2, ?_, p4⟩
                    show (if zyk S z = 4 then _ else _) = _
                    rw [if_pos p1, p3]; rfl
              · exact Or.inr ⟨w1, w2, by rw [q3, key x xy]; exact w3, w4, w5, w6⟩
          · rw [q3]; exact hq S' w1 w2
    · exact zW_rI (hq S1 hl ⟨dp, hd⟩)
theorem z_find_a {x1 : Int} (h : ZG S μ G n fl B R) {dp : Nat → Nat} (hd : ∀ x, x < n → (zyk S x ≠ 4 ∧ G.1 x = x) ∨ (zyk S x = 4 ∧ ∃ y : Nat, zyc S x = (y : Int) ∧ y < n ∧ G.1 y = G.1 x ∧ dp y < dp x)) : ∀ k (y : Nat), dp y < k → y < n → zW (ZL d 583 [.inl (G.1 y : Nat), .inl x1] S) Q → zW (ZL d 352 [.inl x1, .inl (y : Int)] S) Q := by
  have hn := h.2.1.2.1
  intro k
  induction k with
  | zero => intro y hk; omega
  | succ k ih =>
    intro y hk hy hq
    refine zl_find_p2 ?_
    unfold zb_find_p2
    refine zW_a (by omega) (zW_if (fun e => ?_) (fun e => ?_))
    · rcases hd y hy with ⟨q, _⟩ | ⟨_, y', q1, q2, q3, q4⟩
      · exact absurd e q
      · refine zW_a (by omega) (zW_let ?_)
        have q1 : S.2.2.1 25 (y : Int) = (y' : Int) := q1
        rw [q1]
        exact ih y' (by omega) q2 (by rw [q3]; exact hq)
    · rcases hd y hy with ⟨_, q⟩ | ⟨q, _⟩
      · rw [q] at hq; exact zW_let hq
      · exact absurd q e
theorem ZG_lk' (h : ZG S μ G n fl B R) (hl : ZLk S S') (hd : ∃ dp : Nat → Nat, ∀ x, x < n → (zyk S x ≠ 4 ∧ G.1 x = x) ∨ (zyk S x = 4 ∧ ∃ y : Nat, zyc S' x = (y : Int) ∧ y < n ∧ G.1 y = G.1 x ∧ dp y < dp x)) : ZG S' μ G n fl B R := by
  obtain ⟨dp, hd⟩ := hd
  have hk := ZLk_k hl
  have e1 : S'.1 = S.1 := funext fun f => hl.1.1 f (List.not_mem_nil)
  have a : ∀ j, j ≠ 25 → S'.2.2.1 j = S.2.2.1 j := fun j hj => hl.1.2.2.1 j (by simp [hj])
  obtain ⟨h1, h2, h3, h4, h5, h6, h7, h8⟩ := h
  refine ⟨by rw [e1]; exact h1, by rw [e1]; exact h2, ⟨⟨dp, fun x hx => ?_⟩, fun x hx q => ?_⟩, fun x hx => by show S'.2.2.1 24 _ = _; rw [a 24 (by decide)]; exact h4 x hx, fun x hx hr => ?_, h6, fun f hf => by rw [e1]; exact h7 f hf, h8⟩
  · unfold zlk
    rw [hk]
    rcases hd x hx with ⟨p1, p2⟩ | ⟨p1, p2, p3, p4⟩
    · exact Or.inl ⟨if_neg p1, p2⟩
    · refine Or.inr ⟨p2, ?_, p4⟩
      rw [if_pos p1, p3]; rfl
  · rcases hd x hx with ⟨p1, p2⟩ | ⟨p1, p2, p3, p4⟩
    · rw [hk] at q; exact absurd q p1
    · rw [p3]; omega
  · have hr4 : zyk S x ≠ 4 := by
      rcases hd x hx with ⟨p1, p2⟩ | ⟨p1, p2, p3, p4, p5, p6⟩
      · exact p1
      · intro _
        have := LkO_some (lk := zlk S) (rt := G.1) h3.1 hx (y := (zyc S x).toNat) (by unfold zlk; rw [if_pos p1])
        exact this.2.2 hr
    refine ZNode_eq (by rw [e1]; exact Int.le_refl _) (by rw [hk]) (hl.2 x hr4) (by show S'.2.2.1 26 _ = _; rw [a 26 (by decide)]) (fun f _ => ⟨?_, ?_, ?_⟩) (h5 x hx hr)
    · show S'.2.2.1 29 _ = _; rw [a 29 (by decide)]
    · show S'.2.2.1 30 _ = _; rw [a 30 (by decide)]
    · show S'.2.2.1 31 _ = _; rw [a 31 (by decide)]
theorem z_find (h : ZG S μ G n fl B R) (hx : x < n) : ∃ S', ZL d 8 [.inl (x : Int)] S = some (some (some (.inl (G.1 x : Nat))), S') ∧ ZLk S S' ∧ ZG S' μ G n fl B R := by
  obtain ⟨dp, hd⟩ := ZG_lk h
  have : zW (ZL d 8 [.inl (x : Int)] S) (fun o S' => o = some (some (.inl (G.1 x : Nat))) ∧ ZLk S S' ∧ ZG S' μ G n fl B R) := by
    refine zl_find ?_
    unfold zb_find
    refine zW_let (z_find_a h hd _ x (Nat.lt_succ_self _) hx ?_)
    exact z_find_b (x1 := 0) h _ S x (Nat.lt_succ_self _) hx ZLk_refl hd (fun S' w1 w2 => ⟨rfl, w1, ZG_lk' h w1 w2⟩)
  obtain ⟨o, S', e, rfl, q⟩ := this
  exact ⟨S', e, q⟩
end ZTy
