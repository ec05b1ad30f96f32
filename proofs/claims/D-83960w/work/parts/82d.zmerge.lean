set_option maxRecDepth 100000
/-! THE REFERENCE'S TYPES: two become one -/
/-- demands of equality at a place have gone down -/
def zcl (adm : Nat → Bool) (G : TG) (z : Nat) : Prop := ∀ lab loose kids, (G.2 z).2 = .inr (lab, loose, kids) → admq adm lab ∧ (lab ≠ 18 → ∀ l c, (l, c) ∈ kids → (G.2 (G.1 c)).1 = true)
/-- those that are not looked at yet wait in E -/
def JE (adm : Nat → Bool) (S : ZS) (μ : Zmp) (G : TG) (n : Nat) (B : Nat → Zfl) (E : List Nat) : Prop := ∀ z, z < n → G.1 z = z →
  ((G.2 z).1 = true → (∃ t ∈ E, G.1 t = z) ∨ (zcl adm G z ∧ (zyk S z = 1 → mE μ (zyc S z) = true))) ∧
  ((B z).2.2.2.2 = true → zyk S z ≠ 0 ∧ zyk S z ≠ 1 ∧ (G.2 z).1 = true ∧ zcl adm G z)
def zbb (ba bb : Zfl) : Zfl := if (ba.1 || bb.1) = true then (true, bb.2.1, bb.2.2.1, bb.2.2.2.1, false) else bb
def zbec (S : ZS) (a b m : Nat) (ba bb : Zfl) : ZS := if (ba.1 || bb.1) = true then zbe2 (zbe1 S a b) b m (zfb (zbb ba bb)) else zbe1 S a b
/-- what joining leaves alone -/
def ZJf (R : Nat → Prop) (S S' : ZS) : Prop := zAg [67, 78, 79] [23, 24, 25, 26, 29, 30, 31, 37, 38, 39] S S' ∧ S.1 67 ≤ S'.1 67 ∧ (∀ f : Nat, R f → zfl S' f = zfl S f ∧ zft S' f = zft S f ∧ zfn S' f = zfn S f) ∧ ∀ y : Nat, zyk S' y = 1 → zyk S y = 1 ∧ zyc S' y = zyc S y
/-- rows and stacks -/
def ZM (adm : Nat → Bool) (S : ZS) (μ : Zmp) (G : TG) (n : Nat) (fl : Nat → List Nat) (B : Nat → Zfl) (R : Nat → Prop) (W : TW) (E : List Nat) : Prop := ZG S μ G n fl B R ∧ (zWs S W ∧ S.1 78 = (W.length : Int)) ∧ (zEs S E ∧ S.1 79 = (E.length : Int) ∧ ∀ t ∈ E, t < n ∧ (G.2 (G.1 t)).1 = true) ∧ JE adm S μ G n B E
section ZMerge
variable {adm : Nat → Bool} {d : Nat} {S S' : ZS} {μ : Zmp} {G G' : TG} {n n' m x y z a b : Nat} {fl fl' : Nat → List Nat} {B B' : Nat → Zfl} {F : List Nat} {N : TN} {Q : Option (Option ZV) → ZS → Prop} {i v w k c f l t : Int} {R R' : Nat → Prop} {W : TW} {E : List Nat} {ba bb : Zfl}
theorem ZJf_refl : ZJf R S S := ⟨zAg_refl, Int.le_refl _, fun _ _ => ⟨rfl, rfl, rfl⟩, fun _ h => ⟨h, rfl⟩⟩
theorem ZJf_trans {S'' : ZS} (h : ZJf R S S') (h' : ZJf R S' S'') : ZJf R S S'' := ⟨zAg_trans h.1 h'.1, by have := h.2.1; have := h'.2.1; omega, fun f hf => by
  obtain ⟨a1, a2, a3⟩ := h.2.2.1 f hf
  obtain ⟨b1, b2, b3⟩ := h'.2.2.1 f hf
  exact ⟨b1.trans a1, b2.trans a2, b3.trans a3⟩, fun y hy => by
  obtain ⟨q1, q2⟩ := h'.2.2.2 y hy
  obtain ⟨r1, r2⟩ := h.2.2.2 y q1
  exact ⟨r1, q2.trans r2⟩⟩
theorem ZJf_lk (h : ZLk S S') : ZJf R S S' := by
  have a : ∀ j, j ≠ 25 → S'.2.2.1 j = S.2.2.1 j := fun j hj => h.1.2.2.1 j (by simp [hj])
  have e1 : S'.1 = S.1 := funext fun f => h.1.1 f (List.not_mem_nil)
  refine ⟨zAg_mono h.1 (by decide) (by decide), by rw [e1]; exact Int.le_refl _, fun f _ => ⟨?_, ?_, ?_⟩, fun y hy => ?_⟩
  · show S'.2.2.1 29 _ = _; rw [a 29 (by decide)]
  · show S'.2.2.1 30 _ = _; rw [a 30 (by decide)]
  · show S'.2.2.1 31 _ = _; rw [a 31 (by decide)]
  · have e := ZLk_k h
    rw [e] at hy
    exact ⟨hy, h.2 y (by rw [hy]; decide)⟩
theorem ZJf_R (h : ZJf R S S') (hR : ∀ f, R' f → R f) : ZJf R' S S' := ⟨h.1, h.2.1, fun f hf => h.2.2.1 f (hR f hf), h.2.2.2⟩
theorem zbe1_j {j : Nat} (h1 : j ≠ 23) (h2 : j ≠ 25) : (zbe1 S a b).2.2.1 j = S.2.2.1 j := by
  funext i
  show (if j = 25 ∧ i = (a : Int) then (b : Int) else if j = 23 ∧ i = (a : Int) then 4 else S.2.2.1 j i) = _
  rw [if_neg (fun q => h2 q.1), if_neg (fun q => h1 q.1)]
theorem zbe1_o {j : Nat} (hz : z ≠ a) : (zbe1 S a b).2.2.1 j (z : Int) = S.2.2.1 j (z : Int) := by
  show (if j = 25 ∧ (z : Int) = (a : Int) then (b : Int) else if j = 23 ∧ (z : Int) = (a : Int) then 4 else S.2.2.1 j z) = _
  rw [if_neg (fun q => hz (by omega)), if_neg (fun q => hz (by omega))]
theorem zbe2_j {j : Nat} (h1 : j ≠ 24) (h2 : j ≠ 39) : (zbe2 S b m v).2.2.1 j = S.2.2.1 j := by
  funext i
  show (if j = 39 ∧ i = (m : Int) then (b : Int) else if j = 24 ∧ i = (b : Int) then v else S.2.2.1 j i) = _
  rw [if_neg (fun q => h2 q.1), if_neg (fun q => h1 q.1)]
theorem zbe2_24 : (zbe2 S b m v).2.2.1 24 = fun i => if i = (b : Int) then v else S.2.2.1 24 i := by
  funext i
  show (if 24 = 39 ∧ i = (m : Int) then (b : Int) else if 24 = 24 ∧ i = (b : Int) then v else S.2.2.1 24 i) = _
  rw [if_neg (fun q => by cases q.1)]
  by_cases e : i = (b : Int)
  · rw [if_pos ⟨rfl, e⟩, if_pos e]
  · rw [if_neg (fun q => e q.2), if_neg e]
theorem zbe2_E (hm : m = E.length) (h : zEs S E) : zEs (zbe2 S b m v) (b :: E) := by
  subst hm
  refine ⟨if_pos ⟨rfl, rfl⟩, zEs_eq (fun i hi => ?_) h⟩
  show (if 39 = 39 ∧ i = (E.length : Int) then _ else if 39 = 24 ∧ i = (b : Int) then v else S.2.2.1 39 i) = _
  rw [if_neg (fun q => by omega), if_neg (fun q => by cases q.1)]
theorem z_becomes (ha : a < 57000) (hb : b < 57000) (hab : a ≠ b) (fa : zyf S a = zfb ba) (fb : zyf S b = zfb bb) (h79 : S.1 79 = (m : Int)) (hm : m < 57000) : ZL d 140 [.inl (a : Int), .inl (b : Int)] S = some (some none, zbec S a b m ba bb) := by
  refine zW_get (zl_becomes ?_)
  unfold zb_becomes
  refine zW_a (by omega) (zW_a (by omega) ?_)
  rw [show S.2.2.1 24 (a : Int) = zfb ba from fa, show S.2.2.1 24 (b : Int) = zfb bb from fb, zfb_oe]
  refine zW_let (zW_st (by omega) (zW_st (by omega) ?_))
  unfold zbec
  cases e : (ba.1 || bb.1) with
  | false =>
    refine zW_t rfl (zW_rV ⟨rfl, ?_⟩)
    rw [if_neg (by decide)]; rfl
  | true =>
    refine zW_f (by decide) (zW_a (by omega) ?_)
    rw [show (zset (zset S 23 (a : Int) 4) 25 (a : Int) (b : Int)).2.2.1 24 (b : Int) = zfb bb from (congrFun (zbe1_j (S := S) (a := a) (b := b) (by decide) (by decide)) _).trans fb, zfb_e]
    refine zW_st (by omega) ?_
    rw [show (zset (zset (zset S 23 (a : Int) 4) 25 (a : Int) (b : Int)) 24 (b : Int) (zfb (true, bb.2.1, bb.2.2.1, bb.2.2.2.1, false))).1 79 = (m : Int) from h79]
    refine zW_st (by omega) ?_
    rw [show (zset (zset (zset (zset S 23 (a : Int) 4) 25 (a : Int) (b : Int)) 24 (b : Int) (zfb (true, bb.2.1, bb.2.2.1, bb.2.2.2.1, false))) 39 (m : Int) (b : Int)).1 79 = (m : Int) from h79]
    refine zW_G (by omega) (zW_p (zW_rV ⟨rfl, ?_⟩))
    rw [if_pos rfl]
    unfold zbe2 zbb
    rw [if_pos e]; rfl
theorem ZNode_e {e : Bool} (hk : zyk S x = zyk S x) (h : ZNode S μ N F bb x) : ZNode S μ (true, N.2) F (true, bb.2.1, bb.2.2.1, bb.2.2.2.1, e) x := by
  rcases h with ⟨h1, h2, h3⟩ | ⟨h1, ⟨i, h2, h4⟩, h3⟩ | ⟨h1, h2, h3, h4⟩ | ⟨h1, h2, h3, h4⟩
  · exact Or.inl ⟨h1, by rw [h2], h3⟩
  · exact Or.inr (Or.inl ⟨h1, ⟨i, by rw [h2, Bool.or_true], h4⟩, h3⟩)
  · exact Or.inr (Or.inr (Or.inl ⟨h1, h2, by rw [h3], h4⟩))
  · exact Or.inr (Or.inr (Or.inr ⟨h1, h2, by rw [h3], h4⟩))
theorem ZNode_1 (h : ZNode S μ N F bb x) : N.1 = (bb.1 || (decide (zyk S x = 1) && mE μ (zyc S x))) := by
  rcases h with ⟨h1, h2, h3⟩ | ⟨h1, ⟨i, h2, h4⟩, h3⟩ | ⟨h1, h2, h3, h4⟩ | ⟨h1, h2, h3, h4⟩
  · rw [h2, h1]; simp
  · rw [h2, h1]; simp [Bool.or_comm]
  · rw [h3, h1]; simp
  · rw [h3, h1]; simp
theorem ZG_bec (h : ZG S μ G n fl B R) (ha : a < n) (hb : b < n) (ra : G.1 a = a) (rb : G.1 b = b) (hab : a ≠ b) (ka : zyk S a ≠ 1) : ZG (zbec S a b m (B a) (B b)) μ (tlink G a b ((G.2 a).1 || (G.2 b).1, (G.2 b).2)) n fl (fup B b (zbb (B a) (B b))) (fun f => R f ∨ f ∈ fl a) := by
  have hl := ZG_link h ha hb ra rb hab
  have na := ZNode_1 (h.2.2.2.2.1 a ha ra)
  have nb := ZNode_1 (h.2.2.2.2.1 b hb rb)
  have na : (G.2 a).1 = (B a).1 := by rw [na, decide_eq_false ka]; simp
  unfold zbec
  by_cases e : ((B a).1 || (B b).1) = true
  · rw [if_pos e]
    have et : ((G.2 a).1 || (G.2 b).1) = true := by
      rw [na, nb, ← Bool.or_assoc, e]; rfl
    have eN : (fun z => if z = b then ((true, (G.2 b).2) : TN) else G.2 z) = fun z => if z = b then (true, (G.2 b).2) else (if z = b then G.2 b else G.2 z) := by
      funext z; by_cases q : z = b
      · rw [if_pos q, if_pos q]
      · rw [if_neg q, if_neg q, if_neg q]
    have e2 : tlink G a b ((G.2 a).1 || (G.2 b).1, (G.2 b).2) = tset (tlink G a b (G.2 b)) b (true, (G.2 b).2) := by
      rw [et]
      show ((_, fun z => if z = b then ((true, (G.2 b).2) : TN) else G.2 z) : TG) = _
      rw [eN]; rfl
    rw [e2]
    have rb' : (tlink G a b (G.2 b)).1 b = b := by
      show (if G.1 b = a then b else G.1 b) = b
      rw [rb, if_neg (fun q => hab q.symm)]
    have gb : (tlink G a b (G.2 b)).2 b = G.2 b := if_pos rfl
    refine ZG_at (fl' := fl) hl hb rb' rfl rfl (fun z hz => ⟨?_, ?_, ?_, ?_⟩) (fun z _ _ _ f _ => ⟨?_, ?_, ?_⟩) ?_ ?_ (fun z hz => if_neg hz) (fun _ _ => rfl) ?_ (fun z hz rz zb f hf => ?_) (fun f hf => ⟨hl.2.2.2.2.2.2.1 f hf, fun z hz rz _ => hl.2.2.2.2.2.2.2 f hf z hz rz, hl.2.2.2.2.2.2.2 f hf b hb rb'⟩)
    · exact congrFun (zbe2_j (by decide) (by decide)) _
    · show (zbe2 _ _ _ _).2.2.1 24 _ = _
      rw [zbe2_24]; exact if_neg (by omega)
    · exact congrFun (zbe2_j (by decide) (by decide)) _
    · exact congrFun (zbe2_j (by decide) (by decide)) _
    · exact congrFun (zbe2_j (by decide) (by decide)) _
    · exact congrFun (zbe2_j (by decide) (by decide)) _
    · exact congrFun (zbe2_j (by decide) (by decide)) _
    · rw [show zyk (zbe2 (zbe1 S a b) b m (zfb (zbb (B a) (B b)))) b = zyk (zbe1 S a b) b from congrFun (zbe2_j (by decide) (by decide)) _]
      exact (ZG_root hl hb).mp rb'
    · show (zbe2 _ _ _ _).2.2.1 24 _ = zfb (fup B b (zbb (B a) (B b)) b)
      rw [zbe2_24, show fup B b (zbb (B a) (B b)) b = zbb (B a) (B b) from if_pos rfl]; exact if_pos rfl
    · have nd := hl.2.2.2.2.1 b hb rb'
      rw [gb] at nd
      have nd := ZNode_e (e := false) rfl nd
      rw [show fup B b (zbb (B a) (B b)) b = zbb (B a) (B b) from if_pos rfl, show zbb (B a) (B b) = (true, (B b).2.1, (B b).2.2.1, (B b).2.2.2.1, false) from if_pos e]
      refine ZNode_eq (S := zbe1 S a b) (Int.le_refl (S.1 67)) (congrFun (zbe2_j (by decide) (by decide)) _) (congrFun (zbe2_j (by decide) (by decide)) _) (congrFun (zbe2_j (by decide) (by decide)) _) (fun f _ => ⟨?_, ?_, ?_⟩) nd
      · exact congrFun (zbe2_j (by decide) (by decide)) _
      · exact congrFun (zbe2_j (by decide) (by decide)) _
      · exact congrFun (zbe2_j (by decide) (by decide)) _
    · exact fun q => hl.2.2.2.2.2.1 z b hz hb rz rb' zb f q hf
  · rw [if_neg e]
    have e' : (B a).1 = false ∧ (B b).1 = false := by
      cases q : (B a).1 <;> cases q' : (B b).1 <;> simp_all
    have eb : zbb (B a) (B b) = B b := if_neg e
    have e2 : ((G.2 a).1 || (G.2 b).1, (G.2 b).2) = G.2 b := by rw [na, e'.1]; rfl
    have e3 : fup B b (B b) = B := by
      funext z; unfold fup; split
      · next q => rw [q]
      · rfl
    rw [eb, e2, e3]; exact hl
theorem zbec_j {j : Nat} (h1 : j ≠ 23) (h2 : j ≠ 25) (h3 : j ≠ 24) (h4 : j ≠ 39) : (zbec S a b m ba bb).2.2.1 j = S.2.2.1 j := by
  unfold zbec
  split
  · rw [zbe2_j h3 h4, zbe1_j h1 h2]
  · exact zbe1_j h1 h2
theorem zbec_f {f : Nat} (h : f ≠ 79) : (zbec S a b m ba bb).1 f = S.1 f := by
  unfold zbec
  split
  · show (if f = 79 then _ else S.1 f) = _
    rw [if_neg h]
  · rfl
theorem zbec_ag : zAg [67, 78, 79] [23, 24, 25, 26, 29, 30, 31, 37, 38, 39] S (zbec S a b m ba bb) := by
  unfold zbec
  split
  · exact zAg_put (by decide) (zAg_set (by decide) (zAg_set (by decide) (zAg_set (by decide) (zAg_set (by decide) zAg_refl))))
  · exact zAg_set (by decide) (zAg_set (by decide) zAg_refl)
theorem zbec_kc {y : Nat} (h : zyk (zbec S a b m ba bb) y = 1) : zyk S y = 1 ∧ zyc (zbec S a b m ba bb) y = zyc S y := by
  have e1 : zyk (zbec S a b m ba bb) y = if (y : Int) = a then 4 else zyk S y := by
    unfold zbec
    split
    · show (zbe2 _ _ _ _).2.2.1 23 _ = _
      rw [zbe2_j (by decide) (by decide)]
      show (if 23 = 25 ∧ (y : Int) = a then (b : Int) else if 23 = 23 ∧ (y : Int) = a then 4 else S.2.2.1 23 y) = _
      rw [if_neg (fun q => by cases q.1)]
      by_cases q : (y : Int) = a
      · rw [if_pos ⟨rfl, q⟩, if_pos q]
      · rw [if_neg (fun w => q w.2), if_neg q]
    · show (if 23 = 25 ∧ (y : Int) = a then (b : Int) else if 23 = 23 ∧ (y : Int) = a then 4 else S.2.2.1 23 y) = _
      rw [if_neg (fun q => by cases q.1)]
      by_cases q : (y : Int) = a
      · rw [if_pos ⟨rfl, q⟩, if_pos q]
      · rw [if_neg (fun w => q w.2), if_neg q]
  rw [e1] at h
  by_cases q : (y : Int) = a
  · rw [if_pos q] at h; cases h
  · rw [if_neg q] at h
    refine ⟨h, ?_⟩
    unfold zbec
    split
    · show (zbe2 _ _ _ _).2.2.1 25 _ = _
      rw [zbe2_j (by decide) (by decide)]
      exact zbe1_o (fun w => q (by omega))
    · exact zbe1_o (fun w => q (by omega))
theorem zbec_Jf : ZJf R S (zbec S a b m ba bb) := ⟨zbec_ag, by rw [zbec_f (by decide)]; exact Int.le_refl _, fun f _ => ⟨congrFun (zbec_j (by decide) (by decide) (by decide) (by decide)) _, congrFun (zbec_j (by decide) (by decide) (by decide) (by decide)) _, congrFun (zbec_j (by decide) (by decide) (by decide) (by decide)) _⟩, fun _ => zbec_kc⟩
/-- those that wait, behind becomes -/
def zeb (b : Nat) (ba bb : Zfl) (E : List Nat) : List Nat := if (ba.1 || bb.1) = true then b :: E else E
theorem zbec_E (hE : zEs S E) (h79 : S.1 79 = (E.length : Int)) : zEs (zbec S a b E.length ba bb) (zeb b ba bb E) ∧ (zbec S a b E.length ba bb).1 79 = ((zeb b ba bb E).length : Int) := by
  unfold zbec zeb
  split
  · refine ⟨zbe2_E rfl (zEs_a ?_ hE), ?_⟩
    · exact zbe1_j (by decide) (by decide)
    · show ((E.length : Int) + 1) = _
      rw [List.length_cons]; omega
  · exact ⟨zEs_a (zbe1_j (by decide) (by decide)) hE, h79⟩
/-- demands, behind a link -/
theorem JE_link {N2 : Nat ⊕ (Nat × Bool × List (Ky × Nat))} (hw : tWF G n) (h : ZG S μ G n fl B R) (hJ : JE adm S μ G n B E) (ha : a < n) (hb : b < n) (ra : G.1 a = a) (rb : G.1 b = b) (hab : a ≠ b) (ka : zyk S a ≠ 1) {B' : Nat → Zfl} {S' : ZS} (hB : ∀ z, z ≠ b → B' z = B z) (hb' : (B' b).2.2.2.2 = (zbb (B a) (B b)).2.2.2.2) (hk : ∀ z : Nat, z ≠ a → zyk S' z = zyk S z) (hc : ∀ z : Nat, z ≠ a → zyk S z = 1 → zyc S' z = zyc S z) (hN : zyk S b = 1 → N2 = (G.2 b).2) : JE adm S' μ (tlink G a b ((G.2 a).1 || (G.2 b).1, N2)) n B' (zeb b (B a) (B b) E) := by
  have na := ZNode_1 (h.2.2.2.2.1 a ha ra)
  have nb := ZNode_1 (h.2.2.2.2.1 b hb rb)
  have na : (G.2 a).1 = (B a).1 := by rw [na, decide_eq_false ka]; simp
  have sub : ∀ t ∈ E, t ∈ zeb b (B a) (B b) E := by
    intro t ht; unfold zeb; split
    · exact List.mem_cons_of_mem _ ht
    · exact ht
  have fl1 : ∀ c, (G.2 (G.1 c)).1 = true → ((tlink G a b ((G.2 a).1 || (G.2 b).1, N2)).2 ((tlink G a b ((G.2 a).1 || (G.2 b).1, N2)).1 c)).1 = true := by
    intro c hc
    show (if (if G.1 c = a then b else G.1 c) = b then (((G.2 a).1 || (G.2 b).1, N2) : TN) else G.2 (if G.1 c = a then b else G.1 c)).1 = true
    by_cases q : G.1 c = a
    · rw [if_pos q, if_pos rfl]
      rw [q] at hc
      show ((G.2 a).1 || (G.2 b).1) = true
      rw [hc]; rfl
    · rw [if_neg q]
      by_cases q' : G.1 c = b
      · rw [if_pos q']
        rw [q'] at hc
        show ((G.2 a).1 || (G.2 b).1) = true
        rw [hc, Bool.or_true]
      · rw [if_neg q']; exact hc
  intro z hz hr
  have hr : (if G.1 z = a then b else G.1 z) = z := hr
  by_cases zb : z = b
  · subst zb
    refine ⟨fun he => ?_, fun hd => ?_⟩
    · have he : (if z = z then (((G.2 a).1 || (G.2 z).1, N2) : TN) else G.2 z).1 = true := he
      rw [if_pos rfl] at he
      have he : ((G.2 a).1 || (G.2 z).1) = true := he
      by_cases e : ((B a).1 || (B z).1) = true
      · left
        refine ⟨z, by unfold zeb; rw [if_pos e]; exact List.mem_cons_self .., ?_⟩
        show (if G.1 z = a then z else G.1 z) = z
        rw [rb, if_neg (fun q => hab q.symm)]
      · have e' : (B a).1 = false ∧ (B z).1 = false := by
          cases q : (B a).1 <;> cases q' : (B z).1 <;> simp_all
        rw [na, nb, e'.1, e'.2] at he
        simp only [Bool.false_or, Bool.and_eq_true, decide_eq_true_eq] at he
        right
        refine ⟨fun lab loose kids hg => ?_, fun _ => ?_⟩
        · have hg : (if z = z then (((G.2 a).1 || (G.2 z).1, N2) : TN) else G.2 z).2 = _ := hg
          rw [if_pos rfl] at hg
          have hg : N2 = _ := hg
          rw [hN he.1] at hg
          have nd := h.2.2.2.2.1 z hb rb
          rcases nd with ⟨h1, h2, h3⟩ | ⟨h1, ⟨i, h2, h4⟩, h3⟩ | ⟨h1, h2, h3, h4⟩ | ⟨h1, h2, h3, h4⟩
          · rw [h2] at hg; cases hg
          · rw [h2] at hg; cases hg
          · rw [h1] at he; exact absurd he.1 (by decide)
          · rw [h1] at he; exact absurd he.1 (by decide)
        · rw [hc z (fun q => hab q.symm) he.1]; exact he.2
    · rw [hb'] at hd
      unfold zbb at hd
      split at hd
      · cases hd
      · next e =>
        obtain ⟨p1, p2, p3, p4⟩ := (hJ z hb rb).2 hd
        exfalso; apply e
        rw [nb, decide_eq_false p2] at p3
        simp only [Bool.false_and, Bool.or_false] at p3
        rw [p3, Bool.or_true]
  · have r1 : G.1 z = z ∧ z ≠ a := by
      split at hr
      · exact absurd hr.symm zb
      · next q => exact ⟨hr, fun e => q (by rw [e, ra])⟩
    have gz : (tlink G a b ((G.2 a).1 || (G.2 b).1, N2)).2 z = G.2 z := if_neg zb
    have cl : zcl adm G z → zcl adm (tlink G a b ((G.2 a).1 || (G.2 b).1, N2)) z := by
      intro h lab loose kids hg
      rw [gz] at hg
      obtain ⟨p1, p2⟩ := h lab loose kids hg
      exact ⟨p1, fun hl l c m => fl1 c (p2 hl l c m)⟩
    rw [gz, hB z zb, hk z r1.2]
    refine ⟨fun he => ?_, fun hd => ?_⟩
    · rcases (hJ z hz r1.1).1 he with ⟨t, t1, t2⟩ | ⟨q1, q2⟩
      · left
        refine ⟨t, sub t t1, ?_⟩
        show (if G.1 t = a then b else G.1 t) = z
        rw [t2, if_neg r1.2]
      · right
        exact ⟨cl q1, fun hk1 => by rw [hc z r1.2 hk1]; exact q2 hk1⟩
    · obtain ⟨p1, p2, p3, p4⟩ := (hJ z hz r1.1).2 hd
      exact ⟨p1, p2, p3, cl p4⟩
end ZMerge
