set_option maxRecDepth 100000
/-! THE REFERENCE'S TYPES: instances. A walk through what is below a place, each place once; what is through has its copy -/
def ZDq (S S' : ZS) : Prop := zAg [66, 67, 68] [23, 24, 25, 26, 27, 28, 29, 30, 31, 40, 41] S S' ∧ (S.1 66 ≤ S'.1 66 ∧ S.1 67 ≤ S'.1 67) ∧ (∀ f : Nat, (f : Int) < S.1 67 → zfl S' f = zfl S f ∧ zft S' f = zft S f ∧ zfn S' f = zfn S f) ∧ ∀ z : Nat, (z : Int) < S.1 66 → zyk S' z = zyk S z ∧ zyf S' z = zyf S z ∧ zy1 S' z = zy1 S z ∧ (zyk S z ≠ 4 → zyc S' z = zyc S z)
/-- the stack: of what is not left all is through but for the next one -/
def tStc (S : ZS) (G : TG) (n : Nat) (fl : Nat → List Nat) (Bk : Nat → Prop) (x : Nat) : Option Nat → List (Nat × List Nat) → Prop
  | _, [] => True
  | up, q :: K => ((q.1 < n ∧ G.1 q.1 = q.1 ∧ ¬ Bk q.1 ∧ q.1 ∉ K.map Prod.fst) ∧ (zyk S q.1 = 2 ∨ zyk S q.1 = 3)) ∧ (∃ D, fl q.1 = D ++ q.2 ∧ ∀ f ∈ D, Bk (G.1 (zft S f).toNat) ∨ up = some (G.1 (zft S f).toNat)) ∧ (match K with
    | [] => q.1 = x
    | q' :: _ => ∃ f ∈ fl q'.1, G.1 (zft S (f : Nat)).toNat = q.1) ∧ tStc S G n fl Bk x (some q.1) K
/-- what is through -/
def zDone (G : TG) (n : Nat) (P Q : Nat → Prop) (G' : TG) (n' : Nat) (Bk : Nat → Prop) (cp : Nat → Nat) (z : Nat) : Prop := (z < n ∧ G.1 z = z) ∧ (∀ l c, (l, c) ∈ tkids (G.2 z) → Bk (G.1 c)) ∧ ((¬ Q z ∧ cp z = z) ∨ (Q z ∧ (n ≤ cp z ∧ cp z < n' ∧ G'.1 (cp z) = cp z) ∧ ((P z ∧ G'.2 (cp z) = G.2 z) ∨ ∃ e e' lab kids kids', G.2 z = (e, .inr (lab, false, kids)) ∧ G'.2 (cp z) = (e', .inr (lab, false, kids')) ∧ e' = (true && e) ∧ kids'.map Prod.fst = kids.map Prod.fst ∧ ∀ l d d', (l, d) ∈ kids → (l, d') ∈ kids' → d' < n' ∧ G'.1 d' = cp (G.1 d))))
noncomputable def zleft (G : TG) (n : Nat) (Kp Bk : Nat → Prop) : Int := isum (fun z => @ite Int (Kp z ∧ ¬ Bk z) (Classical.propDecidable _) ((tkids (G.2 z)).length : Int) 0) n
def zIv (P Q Kp : Nat → Prop) (S0 : ZS) (μ : Zmp) (G : TG) (n : Nat) (fl : Nat → List Nat) (B : Nat → Zfl) (R : Nat → Prop) (st : Int) (x N1 : Nat) (N2 : Int) (up : Option Nat) (S : ZS) (G' : TG) (n' : Nat) (fl' : Nat → List Nat) (B' : Nat → Zfl) (K : List (Nat × List Nat)) (Bk : Nat → Prop) (cp : Nat → Nat) : Prop :=
  (ZG S μ G' n' fl' B' R ∧ ZDq S0 S ∧ tExt G n G' n' ∧ (∀ z, z < n → fl' z = fl z ∧ B' z = B z) ∧ (∀ y, n ≤ y → y < n' → (B' y).2.2.2.2 = false ∧ ∀ e lab kids, G'.2 y ≠ (e, .inr (lab, true, kids))) ∧ tPhi G' n' + S0.1 67 ≤ tPhi G n + S.1 67) ∧
  (zSk S K ∧ tStc S0 G n fl Bk x up K) ∧
  (S.1 68 = st ∧ (∀ z : Nat, z < n → (zymk S z = st ↔ z ∈ K.map Prod.fst ∨ Bk z)) ∧ ∀ z : Int, 0 ≤ z → z < 57000 → zymk S z ≤ st + 1) ∧
  ((∀ z : Nat, Bk z → S.2.2.1 28 (z : Int) = (cp z : Int) ∧ zDone G n P Q G' n' Bk cp z) ∧ (∀ z z', Bk z → Bk z' → n ≤ cp z → cp z = cp z' → z = z') ∧ ∀ y, n ≤ y → y < n' → ∃ z, Bk z ∧ cp z = y) ∧
  ((∀ z, z ∈ K.map Prod.fst ∨ Bk z → Kp z) ∧ n' + cnt (fun z => Kp z ∧ ¬ Bk z) n ≤ N1 ∧ S.1 67 + zleft G n Kp Bk ≤ N2) ∧
  (Bk x ∨ x ∈ K.map Prod.fst ∨ up = some x)
section ZInst
variable {adm : Nat → Bool} {d : Nat} {S S1 S' S0 : ZS} {μ : Zmp} {G G' G'' : TG} {n n' m x y z a b t N1 : Nat} {fl fl' : Nat → List Nat} {B B' : Nat → Zfl} {F L : List Nat} {N : TN} {i v w c st N2 : Int} {R P Q Kp Bk Bk' : Nat → Prop} {cp : Nat → Nat} {K : List (Nat × List Nat)} {up : Option Nat}
theorem ZDq_refl : ZDq S S := ⟨zAg_refl, ⟨Int.le_refl _, Int.le_refl _⟩, fun _ _ => ⟨rfl, rfl, rfl⟩, fun _ _ => ⟨rfl, rfl, rfl, fun _ => rfl⟩⟩
theorem ZDq_trans {S'' : ZS} (h : ZDq S S') (h' : ZDq S' S'') : ZDq S S'' := by
  obtain ⟨a1, ⟨a2, a3⟩, a4, a5⟩ := h
  obtain ⟨b1, ⟨b2, b3⟩, b4, b5⟩ := h'
  refine ⟨zAg_trans a1 b1, ⟨by omega, by omega⟩, fun f hf => ?_, fun z hz => ?_⟩
  · obtain ⟨p1, p2, p3⟩ := a4 f hf
    obtain ⟨q1, q2, q3⟩ := b4 f (by omega)
    exact ⟨q1.trans p1, q2.trans p2, q3.trans p3⟩
  · obtain ⟨p1, p2, p3, p4⟩ := a5 z hz
    obtain ⟨q1, q2, q3, q4⟩ := b5 z (by omega)
    exact ⟨q1.trans p1, q2.trans p2, q3.trans p3, fun h => (q4 (by rw [p1]; exact h)).trans (p4 h)⟩
theorem ZDq_cq (h : ZCq S S') : ZDq S S' := ⟨zAg_mono h.1 (by decide) (by decide), h.2⟩
theorem ZDq_ag {F A : List Nat} (h : zAg F A S S') (hF : ∀ f ∈ F, f ∈ [68]) (hA : ∀ j ∈ A, j ∈ [27, 28, 40, 41]) : ZDq S S' := by
  have h := zAg_mono h hF hA
  refine ⟨zAg_mono h (by decide) (by decide), ⟨by rw [h.1 66 (by decide)]; exact Int.le_refl _, by rw [h.1 67 (by decide)]; exact Int.le_refl _⟩, fun f _ => ⟨congrFun (h.2.2.1 29 (by decide)) _, congrFun (h.2.2.1 30 (by decide)) _, congrFun (h.2.2.1 31 (by decide)) _⟩, fun z _ => ⟨congrFun (h.2.2.1 23 (by decide)) _, congrFun (h.2.2.1 24 (by decide)) _, congrFun (h.2.2.1 26 (by decide)) _, fun _ => congrFun (h.2.2.1 25 (by decide)) _⟩⟩
theorem tStc_stk : ∀ {K : List (Nat × List Nat)} {up : Option Nat}, tStc S G n fl Bk x up K → tStk S G n fl Bk x up K
  | [], _, _ => trivial
  | _ :: _, _, h => ⟨h.1.1, by
    obtain ⟨D, d1, d2⟩ := h.2.1
    exact ⟨D, d1, fun f m => (d2 f m).imp (fun q => q) Or.inr⟩, h.2.2.1, tStc_stk h.2.2.2⟩
theorem tStc_bk (hb : ∀ z, Bk z → Bk' z) : ∀ {K : List (Nat × List Nat)} {up : Option Nat}, (∀ z ∈ K.map Prod.fst, ¬ Bk' z) → tStc S G n fl Bk x up K → tStc S G n fl Bk' x up K
  | [], _, _, _ => trivial
  | q :: K, up, hn, hs => by
    obtain ⟨⟨⟨h1, h2, h3, h4⟩, h7⟩, ⟨D, d1, d2⟩, h5, h6⟩ := hs
    exact ⟨⟨⟨h1, h2, hn _ (List.mem_cons_self ..), h4⟩, h7⟩, ⟨D, d1, fun f hf => (d2 f hf).imp (hb _) (fun q => q)⟩, h5, tStc_bk hb (fun z hz => hn z (List.mem_cons_of_mem _ hz)) h6⟩
theorem tStc_up (hz : Bk t) : ∀ {K : List (Nat × List Nat)}, tStc S G n fl Bk x (some t) K → tStc S G n fl Bk x none K
  | [], _ => trivial
  | q :: K, hs => by
    obtain ⟨h1, ⟨D, d1, d2⟩, h5, h6⟩ := hs
    refine ⟨h1, ⟨D, d1, fun f hf => ?_⟩, h5, h6⟩
    rcases d2 f hf with q | q
    · exact Or.inl q
    · left
      have : t = G.1 (zft S f).toNat := Option.some.inj q
      rw [← this]; exact hz
/-- what is left to be seen -/
theorem zleft_one (ht : t < n) (hk : Kp t) (hb : ¬ Bk t) : zleft G n Kp (fun y => Bk y ∨ y = t) + (tkids (G.2 t)).length ≤ zleft G n Kp Bk := by
  have := isum_one (n := n) (x := t) (d := fun z => @ite Int (Kp z ∧ ¬ Bk z) (Classical.propDecidable _) ((tkids (G.2 z)).length : Int) 0 - @ite Int (Kp z ∧ ¬ (Bk z ∨ z = t)) (Classical.propDecidable _) ((tkids (G.2 z)).length : Int) 0) ht (fun y _ q => by
    show 0 ≤ _ - _
    by_cases h1 : Kp y ∧ ¬ Bk y
    · rw [if_pos h1]; split <;> omega
    · rw [if_neg h1, if_neg (fun w => h1 ⟨w.1, fun q => w.2 (Or.inl q)⟩)]; omega)
  rw [isum_sub] at this
  have this : @ite Int (Kp t ∧ ¬ Bk t) (Classical.propDecidable _) ((tkids (G.2 t)).length : Int) 0 - @ite Int (Kp t ∧ ¬ (Bk t ∨ t = t)) (Classical.propDecidable _) ((tkids (G.2 t)).length : Int) 0 ≤ isum _ n - isum _ n := this
  rw [if_pos ⟨hk, hb⟩, if_neg (fun w => w.2 (Or.inr rfl))] at this
  have e : zleft G n Kp (fun y => Bk y ∨ y = t) = isum (fun z => @ite Int (Kp z ∧ ¬ (Bk z ∨ z = t)) (Classical.propDecidable _) ((tkids (G.2 z)).length : Int) 0) n := rfl
  rw [e]
  unfold zleft
  omega
theorem zcnt_one (ht : t < n) (hk : Kp t) (hb : ¬ Bk t) : cnt (fun z => Kp z ∧ ¬ (Bk z ∨ z = t)) n + 1 ≤ cnt (fun z => Kp z ∧ ¬ Bk z) n :=
  cnt_lt (x := t) (fun z _ h => ⟨h.1, fun q => h.2 (Or.inl q)⟩) ht (fun h => h.2 (Or.inr rfl)) ⟨hk, hb⟩
theorem zDone_ext (he : ∀ y, y < n' → G''.1 y = G'.1 y ∧ G''.2 y = G'.2 y) (hn : n' ≤ m) (hb : ∀ y, Bk y → Bk' y) {cp' : Nat → Nat} (hc : ∀ y, Bk y → cp' y = cp y) (hz : Bk z) (h : zDone G n P Q G' n' Bk cp z) : zDone G n P Q G'' m Bk' cp' z := by
  obtain ⟨h1, h2, h3⟩ := h
  refine ⟨h1, fun l c mm => hb _ (h2 l c mm), ?_⟩
  rw [hc z hz]
  rcases h3 with h3 | ⟨h3, ⟨q1, q2, q3⟩, h4⟩
  · exact Or.inl h3
  · refine Or.inr ⟨h3, ⟨q1, by omega, by rw [(he _ q2).1]; exact q3⟩, ?_⟩
    rw [(he _ q2).2]
    rcases h4 with h4 | ⟨e, e', lab, kids, kids', r1, r2, r3, r4, r5⟩
    · exact Or.inl h4
    · refine Or.inr ⟨e, e', lab, kids, kids', r1, r2, r3, r4, fun l d d' m1 m2 => ?_⟩
      obtain ⟨s1, s2⟩ := r5 l d d' m1 m2
      refine ⟨by omega, ?_⟩
      rw [(he _ s1).1, s2, hc]
      exact h2 l d (by rw [r1]; exact m1)
theorem tPhi_add : tPhi (gAdd G n N) (n + 1) = tPhi G n + (tkids N).length := by
  have e : tPhi (gAdd G n N) n = tPhi G n := isum_eq (fun z hz => by
    have q : z ≠ n := by omega
    rw [show (gAdd G n N).1 z = G.1 z from if_neg q, show (gAdd G n N).2 z = G.2 z from if_neg q])
  have e2 : tPhi (gAdd G n N) (n + 1) = tPhi (gAdd G n N) n + @ite Int ((gAdd G n N).1 n = n) (Classical.propDecidable _) ((tkids ((gAdd G n N).2 n)).length : Int) 0 := rfl
  rw [e2, e, if_pos (show (gAdd G n N).1 n = n from if_pos rfl), show (gAdd G n N).2 n = N from if_pos rfl]
/-- one more is through -/
theorem zIv_add {fl'' : Nat → List Nat} {B'' : Nat → Zfl} {S2 : ZS} {c : Nat} (hA : ZG S2 μ G'' m fl'' B'' R ∧ ZDq S0 S2 ∧ tExt G n G'' m ∧ (∀ z, z < n → fl'' z = fl z ∧ B'' z = B z) ∧ (∀ y, n ≤ y → y < m → (B'' y).2.2.2.2 = false ∧ ∀ e lab kids, G''.2 y ≠ (e, .inr (lab, true, kids))) ∧ tPhi G'' m + S0.1 67 ≤ tPhi G n + S2.1 67) (hn : n ≤ n') (he : tExt G' n' G'' m) (hB : zSk S2 K ∧ tStc S0 G n fl Bk x (some t) K) (ht : t ∉ K.map Prod.fst) (htb : ¬ Bk t)
    (hC : S2.1 68 = st ∧ (∀ z : Nat, z < n → (zymk S2 z = st ↔ z ∈ K.map Prod.fst ∨ Bk z ∨ z = t)) ∧ ∀ z : Int, 0 ≤ z → z < 57000 → zymk S2 z ≤ st + 1)
    (hD : (∀ z : Nat, Bk z → S.2.2.1 28 (z : Int) = (cp z : Int) ∧ zDone G n P Q G' n' Bk cp z) ∧ (∀ z z', Bk z → Bk z' → n ≤ cp z → cp z = cp z' → z = z') ∧ ∀ y, n ≤ y → y < n' → ∃ z, Bk z ∧ cp z = y)
    (h28 : ∀ y : Nat, y ≠ t → S2.2.2.1 28 (y : Int) = S.2.2.1 28 (y : Int)) (h28t : S2.2.2.1 28 (t : Int) = (c : Int)) (hd : zDone G n P Q G'' m (fun y => Bk y ∨ y = t) (fup cp t c) t) (hi : n ≤ c → n' ≤ c) (hs : ∀ y, n' ≤ y → y < m → y = c)
    (hE : (∀ z, z ∈ K.map Prod.fst ∨ Bk z → Kp z) ∧ Kp t ∧ m + cnt (fun z => Kp z ∧ ¬ (Bk z ∨ z = t)) n ≤ N1 ∧ S2.1 67 + zleft G n Kp (fun y => Bk y ∨ y = t) ≤ N2)
    (hF : Bk x ∨ x ∈ K.map Prod.fst ∨ t = x) : zIv P Q Kp S0 μ G n fl B R st x N1 N2 none S2 G'' m fl'' B'' K (fun y => Bk y ∨ y = t) (fup cp t c) := by
  have co : ∀ y, Bk y → fup cp t c y = cp y := fun y hy => if_neg (fun q => htb (by rw [← q]; exact hy))
  have ct : fup cp t c t = c := if_pos rfl
  have stk := (tStk_lt (tStc_stk hB.2)).1
  have lt : ∀ y, Bk y → n ≤ cp y → cp y < n' := by
    intro y hy h
    obtain ⟨_, h1, _, h3⟩ := hD.1 y hy
    rcases h3 with ⟨_, q⟩ | ⟨_, q, _⟩
    · omega
    · exact q.2.1
  refine ⟨hA, ⟨hB.1, tStc_up (t := t) (Or.inr rfl) (tStc_bk (Bk := Bk) (fun _ q => Or.inl q) (fun y hy => ?_) hB.2)⟩, ⟨hC.1, fun z hz => ?_, hC.2.2⟩, ⟨fun z hz => ?_, fun z z' hz hz' h1 h2 => ?_, fun y h1 h2 => ?_⟩, ⟨fun z hz => ?_, hE.2.2.1, hE.2.2.2⟩, ?_⟩
  · rintro (q | q)
    · exact (stk y hy).2.2 q
    · exact ht (by rw [← q]; exact hy)
  · exact hC.2.1 z hz
  · by_cases q : z = t
    · rw [q, ct]
      exact ⟨h28t, hd⟩
    · have hz : Bk z := hz.resolve_right q
      obtain ⟨d1, d2⟩ := hD.1 z hz
      rw [h28 z q, co z hz]
      exact ⟨d1, zDone_ext he.2 he.1 (fun _ q => Or.inl q) co hz d2⟩
  · by_cases q : z = t
    · by_cases q' : z' = t
      · rw [q, q']
      · have hz' : Bk z' := hz'.resolve_right q'
        rw [q, ct] at h1 h2
        rw [co z' hz'] at h2
        have := lt z' hz' (by omega)
        have := hi h1
        omega
    · have hz : Bk z := hz.resolve_right q
      rw [co z hz] at h1 h2
      by_cases q' : z' = t
      · rw [q', ct] at h2
        have := lt z hz h1
        have := hi (by omega)
        omega
      · have hz' : Bk z' := hz'.resolve_right q'
        rw [co z' hz'] at h2
        exact hD.2.1 z z' hz hz' h1 h2
  · by_cases q : y < n'
    · obtain ⟨z, z1, z2⟩ := hD.2.2 y h1 q
      exact ⟨z, Or.inl z1, by rw [co z z1]; exact z2⟩
    · exact ⟨t, Or.inr rfl, by rw [ct]; exact (hs y (by omega) h2).symm⟩
  · rcases hz with q | q | q
    · exact hE.1 z (Or.inl q)
    · exact hE.1 z (Or.inr q)
    · rw [q]; exact hE.2.1
  · rcases hF with q | q | q
    · exact Or.inl (Or.inl q)
    · exact Or.inr (Or.inl q)
    · exact Or.inl (Or.inr q.symm)
end ZInst
