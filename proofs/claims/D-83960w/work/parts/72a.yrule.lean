set_option maxRecDepth 100000
/-! THE HOUSE OVER WHOLE NUMBERS: rules for its combinators; what a run leaves as it is -/
section YW
variable {Q : Option (Option ZV) → YS → Prop} {H H' H1 H2 : YS} {f g ty a b ci n t c cn idx d tag kd e : Nat} {r w r0 : Option Nat} {v j i sp dp m : Int} {C : YC} {as : List ZV} {cs : List (Nat × Nat)}
theorem zW_gI {k : Int → ZR YS} (hk : yK H a = kd) (ho : yokF f kd = true) (h : zW (k (yI H f a)) Q) : zW (ygI f (some a) H k) Q := zW_t (by rw [hk]; exact ho) h
theorem zW_gIk {k : Int → ZR YS} (hk : yK H a = ci) (h : zW (k (yI H f a)) Q) : zW (ygIk ci f (some a) H k) Q := zW_t hk h
theorem zW_gR {k : Option Nat → ZR YS} (hk : yK H a = kd) (ho : yokF f kd = true) (h : zW (k (yR H f a)) Q) : zW (ygR f (some a) H k) Q := zW_t (by rw [hk]; exact ho) h
theorem zW_pI {k : YS → ZR YS} (hk : yK H a = kd) (ho : kd < 72 ∧ yokF f kd = true) (hf : yfit ty v = true) (h : zW (k (yput H f a v)) Q) : zW (ypI f ty (some a) v H k) Q := zW_t (by rw [hk]; exact ⟨ho.1, ho.2, hf⟩) h
theorem zW_pR {k : YS → ZR YS} (hk : yK H a = kd) (ho : kd < 72 ∧ yokF f kd = true) (h : zW (k (yputR H f a w)) Q) : zW (ypR f (some a) w H k) Q := zW_t (by rw [hk]; exact ho) h
theorem zW_new {k : Option Nat → YS → ZR YS} (h : zW (k (some (ynx H)) (ymk H ci 0 (if ci = 3 then 6 else n))) Q) : zW (ynew ci n H k) Q := h
theorem zW_na {k : Option Nat → YS → ZR YS} (hm : 0 ≤ m ∧ m ≤ 16777216) (h : zW (k (some (ynx H)) (ymk H (1000 + t) m m.toNat)) Q) : zW (yna t m H k) Q := zW_t hm h
theorem zW_len {k : Int → ZR YS} (hk : (1000 ≤ yK H a ∧ yK H a < 1012) ∨ (3000 ≤ yK H a ∧ yK H a < 3012)) (h : zW (k (yN H a)) Q) : zW (ylen (some a) H k) Q := zW_t hk h
theorem zW_aI {k : Int → ZR YS} (hk : yK H a = kd) (ho : yokL c kd = true) (hj : 0 ≤ j ∧ j < yN H a) (h : zW (k (yA H a j)) Q) : zW (yaI c (some a) j H k) Q := zW_t (by rw [hk]; exact ⟨ho, hj⟩) h
theorem zW_aR {k : Option Nat → ZR YS} (hk : (1005 ≤ yK H a ∧ yK H a < 1012) ∨ yK H a = 3011) (hj : 0 ≤ j ∧ j < yN H a) (h : zW (k (yB H a j)) Q) : zW (yaR (some a) j H k) Q := zW_t ⟨hk, hj⟩ h
theorem zW_yst {k : YS → ZR YS} (hk : yK H a = kd) (ho : yokS c kd = true) (hj : 0 ≤ j ∧ j < yN H a) (h : zW (k (yset H a j (ynar kd v))) Q) : zW (yst c (some a) j v H k) Q := by
  subst hk
  exact zW_t ⟨ho, hj⟩ h
theorem zW_sR {k : YS → ZR YS} (hk : 1005 ≤ yK H a ∧ yK H a < 1012) (hj : 0 ≤ j ∧ j < yN H a) (ho : yokO (yK H a) w (yK H) = true) (h : zW (k (ysetR H a j w)) Q) : zW (ysR (some a) j w H k) Q := zW_t ⟨hk, hj, ho⟩ h
theorem zW_cc {k : ZR YS} (hk : yK H a = kd) (ho : ycast cn idx kd = true) (h : zW k Q) : zW (ycc cn idx (some a) H k) Q := zW_t (by rw [hk]; exact ho) h
theorem zW_cc0 {k : ZR YS} (h : zW k Q) : zW (ycc cn idx none H k) Q := h
theorem zW_io {k : Int → ZR YS} (hk : yK H a = kd) (ho : yinst cn idx kd = some v) (h : zW (k v) Q) : zW (yio cn idx (some a) H k) Q := by
  unfold yio
  dsimp only
  rw [hk, ho]
  exact h
theorem zW_io0 {k : Int → ZR YS} (h : zW (k 0) Q) : zW (yio cn idx none H k) Q := h
theorem zW_svI {k : Int → ZR YS} (h : zW (k (C.2.1 n)) Q) : zW (ysvI C n k) Q := h
theorem zW_svR {k : Option Nat → ZR YS} (h : zW (k (C.2.2.1 n)) Q) : zW (ysvR C n k) Q := h
theorem zW_null {A B : ZR YS} (h1 : r = none → zW A Q) (h2 : r ≠ none → zW B Q) : zW (ynull r A B) Q := by
  cases r with
  | none => exact h1 rfl
  | some a => exact h2 (fun q => by cases q)
theorem zW_nn {A B : ZR YS} (h : zW B Q) : zW (ynull (some a) A B) Q := h
theorem zW_n0 {A B : ZR YS} (h : zW A Q) : zW (ynull none A B) Q := h
theorem zW_ythrow (hk : yK H a = 3) (h : Q none H) : zW (ythrow (some a) H) Q := zW_t hk (zW_s h)
theorem zW_rN (hf : yfit ty v = true) (h : Q (some (some (.inl v))) H) : zW (yrN ty v H) Q := zW_t hf (zW_s h)
theorem ycs_s {R : ZC YS} : ycs R d tag (some a) as H = zc R d tag (.inr (.inr (some a)) :: as) H := rfl
theorem ycv_s {R : ZC YS} (hk : yK H a = kd) (hc : (kd < 72 ∨ (2000 ≤ kd ∧ kd < 3000)) ∧ xk_find cs (ykcl kd) = some tag) : ycv R d cs (some a) as H = zc R d tag (.inr (.inr (some a)) :: as) H := by
  unfold ycv
  dsimp only
  rw [hk, if_pos hc.1, hc.2]
theorem ycu_s {R : ZC YS} (hk : yK H a = kd) (hc : kd < 72 ∨ (2000 ≤ kd ∧ kd < 3000)) : ycu R d tag (some a) as H = zc R d tag (.inr (.inr (some a)) :: as) H := by
  unfold ycu
  dsimp only
  rw [hk, if_pos hc]
theorem zW_Ih {x : ZR YS} {kt : YS → ZR YS} {k : Int → YS → ZR YS} {P : Int → YS → Prop} {T : YS → Prop} (h : zW x (oI P T)) (hk : ∀ v S, P v S → zW (k v S) Q) (ht : ∀ S, T S → zW (kt S) Q) : zW (yIh x kt k) Q := by
  obtain ⟨o, S', rfl, q⟩ := h
  rcases o with _ | _ | v | v | v
  · exact ht _ q
  · exact False.elim q
  · exact hk _ _ q
  · exact False.elim q
  · exact False.elim q
theorem zW_Qh {x : ZR YS} {kt : YS → ZR YS} {k : Option Nat → YS → ZR YS} {P : Option Nat → YS → Prop} {T : YS → Prop} (h : zW x (oQ P T)) (hk : ∀ v S, P v S → zW (k v S) Q) (ht : ∀ S, T S → zW (kt S) Q) : zW (yQh x kt k) Q := by
  obtain ⟨o, S', rfl, q⟩ := h
  rcases o with _ | _ | v | v | v
  · exact ht _ q
  · exact False.elim q
  · exact False.elim q
  · exact False.elim q
  · exact hk _ _ q
theorem zW_Vh {x : ZR YS} {kt : YS → ZR YS} {k : YS → ZR YS} {P T : YS → Prop} (h : zW x (oV P T)) (hk : ∀ S, P S → zW (k S) Q) (ht : ∀ S, T S → zW (kt S) Q) : zW (yVh x kt k) Q := by
  obtain ⟨o, S', rfl, q⟩ := h
  rcases o with _ | _ | v | v | v
  · exact ht _ q
  · exact hk _ q
  · exact False.elim q
  · exact False.elim q
  · exact False.elim q
theorem yput_at : yI (yput H f a v) f a = v := if_pos ⟨rfl, rfl⟩
theorem yput_f (h : g ≠ f) : yI (yput H f a v) g b = yI H g b := if_neg (fun q => h q.1)
theorem yput_b (h : b ≠ a) : yI (yput H f a v) g b = yI H g b := if_neg (fun q => h q.2)
theorem yputR_at : yR (yputR H f a w) f a = w := if_pos ⟨rfl, rfl⟩
theorem yputR_f (h : g ≠ f) : yR (yputR H f a w) g b = yR H g b := if_neg (fun q => h q.1)
theorem yputR_b (h : b ≠ a) : yR (yputR H f a w) g b = yR H g b := if_neg (fun q => h q.2)
theorem yset_at : yA (yset H a j v) a j = v := if_pos ⟨rfl, rfl⟩
theorem yset_j (h : i ≠ j) : yA (yset H a j v) b i = yA H b i := if_neg (fun q => h q.2)
theorem yset_b (h : b ≠ a) : yA (yset H a j v) b i = yA H b i := if_neg (fun q => h q.1)
theorem ysetR_at : yB (ysetR H a j w) a j = w := if_pos ⟨rfl, rfl⟩
theorem ysetR_j (h : i ≠ j) : yB (ysetR H a j w) b i = yB H b i := if_neg (fun q => h q.2)
theorem ysetR_b (h : b ≠ a) : yB (ysetR H a j w) b i = yB H b i := if_neg (fun q => h q.1)
/-! a cell as it was; a heap that has only grown, but for some cells -/
def ySame (H H' : YS) (a : Nat) : Prop := (∀ f, yI H' f a = yI H f a) ∧ (∀ f, yR H' f a = yR H f a) ∧ (∀ j, yA H' a j = yA H a j) ∧ ∀ j, yB H' a j = yB H a j
/-- at most c cells, s slots more; of the old ones only those of P are written -/
def yEx (P : Nat → Prop) (c s : Nat) (H H' : YS) : Prop := (∀ a, a < ynx H → ¬ P a → ySame H H' a) ∧ (∀ a, a < ynx H → yK H' a = yK H a ∧ yN H' a = yN H a) ∧ ynx H ≤ ynx H' ∧ ynx H' ≤ ynx H + c ∧ ysl H' ≤ ysl H + s
section EX
variable {P P' : Nat → Prop} {c c' s s' : Nat}
theorem ySame_refl : ySame H H a := ⟨fun _ => rfl, fun _ => rfl, fun _ => rfl, fun _ => rfl⟩
theorem ySame_trans (h1 : ySame H H1 a) (h2 : ySame H1 H2 a) : ySame H H2 a := ⟨fun f => (h2.1 f).trans (h1.1 f), fun f => (h2.2.1 f).trans (h1.2.1 f), fun j => (h2.2.2.1 j).trans (h1.2.2.1 j), fun j => (h2.2.2.2 j).trans (h1.2.2.2 j)⟩
theorem yEx_refl : yEx P c s H H := ⟨fun _ _ _ => ySame_refl, fun _ _ => ⟨rfl, rfl⟩, Nat.le_refl _, Nat.le_add_right _ _, Nat.le_add_right _ _⟩
theorem yEx_trans (h1 : yEx P c s H H1) (h2 : yEx P' c' s' H1 H2) (hP : ∀ a, a < ynx H → P' a → P a) : yEx P (c + c') (s + s') H H2 := by
  have l1 := h1.2.2
  have l2 := h2.2.2
  refine ⟨fun a ha hp => ySame_trans (h1.1 a ha hp) (h2.1 a (by omega) (fun q => hp (hP a ha q))), fun a ha => ?_, by omega, by omega, by omega⟩
  have := h1.2.1 a ha
  have := h2.2.1 a (by omega)
  exact ⟨by rw [this.1]; exact (h1.2.1 a ha).1, by rw [this.2]; exact (h1.2.1 a ha).2⟩
theorem yEx_mono (h : yEx P c s H H') (hP : ∀ a, a < ynx H → P a → P' a) (hc : c ≤ c') (hs : s ≤ s') : yEx P' c' s' H H' := ⟨fun a ha hp => h.1 a ha (fun q => hp (hP a ha q)), h.2.1, h.2.2.1, by have := h.2.2.2.1; omega, by have := h.2.2.2.2; omega⟩
theorem yEx_put (h : yEx P c s H H') (hp : a < ynx H → P a) : yEx P c s H (yput H' f a v) := by
  refine ⟨fun b hb hq => ?_, h.2.1, h.2.2⟩
  have := h.1 b hb hq
  refine ⟨fun g => ?_, this.2⟩
  show (if g = f ∧ b = a then v else yI H' g b) = _
  rw [if_neg (fun q => hq (by rw [q.2] at hb ⊢; exact hp hb))]
  exact this.1 g
theorem yEx_putR (h : yEx P c s H H') (hp : a < ynx H → P a) : yEx P c s H (yputR H' f a w) := by
  refine ⟨fun b hb hq => ?_, h.2.1, h.2.2⟩
  have := h.1 b hb hq
  refine ⟨this.1, fun g => ?_, this.2.2⟩
  show (if g = f ∧ b = a then w else yR H' g b) = _
  rw [if_neg (fun q => hq (by rw [q.2] at hb ⊢; exact hp hb))]
  exact this.2.1 g
theorem yEx_set (h : yEx P c s H H') (hp : a < ynx H → P a) : yEx P c s H (yset H' a j v) := by
  refine ⟨fun b hb hq => ?_, h.2.1, h.2.2⟩
  have := h.1 b hb hq
  refine ⟨this.1, this.2.1, fun i => ?_, this.2.2.2⟩
  show (if b = a ∧ i = j then v else yA H' b i) = _
  rw [if_neg (fun q => hq (by rw [q.1] at hb ⊢; exact hp hb))]
  exact this.2.2.1 i
theorem yEx_setR (h : yEx P c s H H') (hp : a < ynx H → P a) : yEx P c s H (ysetR H' a j w) := by
  refine ⟨fun b hb hq => ?_, h.2.1, h.2.2⟩
  have := h.1 b hb hq
  refine ⟨this.1, this.2.1, this.2.2.1, fun i => ?_⟩
  show (if b = a ∧ i = j then w else yB H' b i) = _
  rw [if_neg (fun q => hq (by rw [q.1] at hb ⊢; exact hp hb))]
  exact this.2.2.2 i
theorem ymk_K : yK (ymk H kd v n) b = if b = ynx H then kd else yK H b := rfl
theorem ymk_N : yN (ymk H kd v n) b = if b = ynx H then v else yN H b := rfl
theorem ymk_I : yI (ymk H kd v n) f b = if b = ynx H then 0 else yI H f b := rfl
theorem ymk_R : yR (ymk H kd v n) f b = if b = ynx H then none else yR H f b := rfl
theorem ymk_A : yA (ymk H kd v n) b j = if b = ynx H then 0 else yA H b j := rfl
theorem ymk_B : yB (ymk H kd v n) b j = if b = ynx H then none else yB H b j := rfl
theorem ymk_x : ynx (ymk H kd v n) = ynx H + 1 := rfl
theorem ymk_s : ysl (ymk H kd v n) = ysl H + n := rfl
theorem yEx_mk (h : yEx P c s H H') : yEx P (c + 1) (s + n) H (ymk H' kd v n) := by
  have l := h.2.2
  refine ⟨fun b hb hq => ?_, fun b hb => ?_, ?_, ?_, ?_⟩
  · have hne : ¬ b = ynx H' := by omega
    have := h.1 b hb hq
    exact ⟨fun f => by rw [ymk_I, if_neg hne]; exact this.1 f, fun f => by rw [ymk_R, if_neg hne]; exact this.2.1 f, fun f => by rw [ymk_A, if_neg hne]; exact this.2.2.1 f, fun f => by rw [ymk_B, if_neg hne]; exact this.2.2.2 f⟩
  · have hne : ¬ b = ynx H' := by omega
    rw [ymk_K, ymk_N, if_neg hne, if_neg hne]
    exact h.2.1 b hb
  · rw [ymk_x]; omega
  · rw [ymk_x]; omega
  · rw [ymk_s]; omega
end EX
end YW
