set_option maxRecDepth 100000
/-! WHOLE NUMBERS: both halves again, over Int, with their bounds asked where a sum is kept; a limit in the place of steps. What is common to both. -/
abbrev ZV : Type := Int ⊕ Int ⊕ Option Nat
abbrev ZR (σ : Type) : Type := Option (Option (Option ZV) × σ)
abbrev ZC (σ : Type) : Type := Nat → Nat → List ZV → σ → ZR σ
abbrev zFn (σ : Type) : Type := ZC σ → Nat → List ZV → σ → ZR σ
abbrev inI (a : Int) : Prop := -2147483648 ≤ a ∧ a < 2147483648
abbrev inL (a : Int) : Prop := -9223372036854775808 ≤ a ∧ a < 9223372036854775808
def zlet {α β : Type} (v : α) (k : α → β) : β := k v
def zG {σ : Type} (p : Prop) [Decidable p] (k : ZR σ) : ZR σ := if p then k else none
def zc {σ : Type} (R : ZC σ) (d tag : Nat) (as : List ZV) (S : σ) : ZR σ := match d with
  | 0 => none
  | d + 1 => R d tag as S
def zI {σ : Type} (x : ZR σ) (k : Int → σ → ZR σ) : ZR σ := match x with
  | some (some (some (.inl v)), S) => k v S
  | some (none, S) => some (none, S)
  | _ => none
def zJ {σ : Type} (x : ZR σ) (k : Int → σ → ZR σ) : ZR σ := match x with
  | some (some (some (.inr (.inl v))), S) => k v S
  | some (none, S) => some (none, S)
  | _ => none
def zQ {σ : Type} (x : ZR σ) (k : Option Nat → σ → ZR σ) : ZR σ := match x with
  | some (some (some (.inr (.inr v))), S) => k v S
  | some (none, S) => some (none, S)
  | _ => none
def zV {σ : Type} (x : ZR σ) (k : σ → ZR σ) : ZR σ := match x with
  | some (some none, S) => k S
  | some (none, S) => some (none, S)
  | _ => none
def zrI {σ : Type} (v : Int) (S : σ) : ZR σ := some (some (some (.inl v)), S)
def zrZ {σ : Type} (v : Int) (S : σ) : ZR σ := if v = 0 ∨ v = 1 then some (some (some (.inl v)), S) else none
def zrL {σ : Type} (v : Int) (S : σ) : ZR σ := some (some (some (.inr (.inl v))), S)
def zrQ {σ : Type} (v : Option Nat) (S : σ) : ZR σ := some (some (some (.inr (.inr v))), S)
def zrV {σ : Type} (S : σ) : ZR σ := some (some none, S)
/-- finitely many answers are looked at -/
def Yd {σ : Type} (F : ZC σ → ZR σ) : Prop := ∀ R r, F R = some r → ∃ L : List (Nat × Nat × List ZV × σ), ∀ R' : ZC σ, (∀ q ∈ L, ∀ a, R q.1 q.2.1 q.2.2.1 q.2.2.2 = some a → R' q.1 q.2.1 q.2.2.1 q.2.2.2 = some a) → F R' = some r
def YdF {σ : Type} (f : zFn σ) : Prop := ∀ d as S, Yd (fun R => f R d as S)
section FD
variable {σ : Type} {d tag : Nat} {as : List ZV} {S : σ}
theorem Yd_k {c : ZR σ} : Yd (fun _ => c) := fun _ _ e => ⟨[], fun _ _ => e⟩
theorem Yd_rec : Yd (fun R => R d tag as S) := fun R r e => ⟨[(d, tag, as, S)], fun R' h => h _ (List.mem_singleton.mpr rfl) r e⟩
theorem Yd_c : Yd (fun R => zc R d tag as S) := by
  cases d with
  | zero => exact Yd_k
  | succ d => exact Yd_rec
theorem Yd_let {α : Type} {v : α} {k : ZC σ → α → ZR σ} (h : ∀ x, Yd (fun R => k R x)) : Yd (fun R => zlet v (k R)) := h v
theorem Yd_if {p : Prop} [Decidable p] {A B : ZC σ → ZR σ} (h1 : Yd A) (h2 : Yd B) : Yd (fun R => if p then A R else B R) := by
  by_cases hp : p
  · simpa only [if_pos hp] using h1
  · simpa only [if_neg hp] using h2
theorem Yd_G {p : Prop} [Decidable p] {A : ZC σ → ZR σ} (h1 : Yd A) : Yd (fun R => zG p (A R)) := Yd_if h1 Yd_k
def zbind {σ : Type} (x : ZR σ) (k : Option (Option ZV) → σ → ZR σ) : ZR σ := match x with
  | some (o, S) => k o S
  | none => none
theorem Yd_zb {X : ZC σ → ZR σ} {K : ZC σ → Option (Option ZV) → σ → ZR σ} (hx : Yd X) (hk : ∀ o S, Yd (fun R => K R o S)) : Yd (fun R => zbind (X R) (K R)) := by
  intro R r e
  change zbind (X R) (K R) = some r at e
  unfold zbind at e
  cases hX : X R with
  | none => rw [hX] at e; cases e
  | some q =>
    obtain ⟨o, S⟩ := q
    rw [hX] at e
    obtain ⟨L1, h1⟩ := hx R _ hX
    obtain ⟨L2, h2⟩ := hk o S R _ e
    refine ⟨L1 ++ L2, fun R' h => ?_⟩
    have e1 := h1 R' (fun q hq => h q (List.mem_append_left _ hq))
    have e2 := h2 R' (fun q hq => h q (List.mem_append_right _ hq))
    show zbind (X R') (K R') = some r
    unfold zbind
    rw [e1]
    exact e2
theorem Yd_bind {X : ZC σ → ZR σ} {K : ZC σ → Option (Option ZV) → σ → ZR σ} (hx : Yd X) (hk : ∀ o S, Yd (fun R => K R o S)) : Yd (fun R => match X R with
    | some (o, S) => K R o S
    | none => none) := by
  intro R r e
  cases hX : X R with
  | none => simp only [hX] at e; cases e
  | some q =>
    obtain ⟨o, S⟩ := q
    simp only [hX] at e
    obtain ⟨L1, h1⟩ := hx R _ hX
    obtain ⟨L2, h2⟩ := hk o S R _ e
    refine ⟨L1 ++ L2, fun R' h => ?_⟩
    have e1 := h1 R' (fun q hq => h q (List.mem_append_left _ hq))
    have e2 := h2 R' (fun q hq => h q (List.mem_append_right _ hq))
    simp only [e1]
    exact e2
theorem Yd_I {X : ZC σ → ZR σ} {K : ZC σ → Int → σ → ZR σ} (hx : Yd X) (hk : ∀ v S, Yd (fun R => K R v S)) : Yd (fun R => zI (X R) (K R)) := by
  have e : (fun R => zI (X R) (K R)) = fun R => match X R with
    | some (o, S) => (match o with
      | some (some (.inl v)) => K R v S
      | none => some (none, S)
      | _ => none)
    | none => none := by
    funext R; unfold zI; rcases X R with _ | ⟨_ | _ | _ | _ | _, _⟩ <;> rfl
  rw [e]
  refine Yd_bind (K := fun R o S => match o with
      | some (some (.inl v)) => K R v S
      | none => some (none, S)
      | _ => none) hx (fun o S => ?_)
  rcases o with _ | _ | v | v | v
  · exact Yd_k
  · exact Yd_k
  · exact hk v S
  · exact Yd_k
  · exact Yd_k
theorem Yd_J {X : ZC σ → ZR σ} {K : ZC σ → Int → σ → ZR σ} (hx : Yd X) (hk : ∀ v S, Yd (fun R => K R v S)) : Yd (fun R => zJ (X R) (K R)) := by
  have e : (fun R => zJ (X R) (K R)) = fun R => match X R with
    | some (o, S) => (match o with
      | some (some (.inr (.inl v))) => K R v S
      | none => some (none, S)
      | _ => none)
    | none => none := by
    funext R; unfold zJ; rcases X R with _ | ⟨_ | _ | _ | _ | _, _⟩ <;> rfl
  rw [e]
  refine Yd_bind (K := fun R o S => match o with
      | some (some (.inr (.inl v))) => K R v S
      | none => some (none, S)
      | _ => none) hx (fun o S => ?_)
  rcases o with _ | _ | v | v | v
  · exact Yd_k
  · exact Yd_k
  · exact Yd_k
  · exact hk v S
  · exact Yd_k
theorem Yd_Q {X : ZC σ → ZR σ} {K : ZC σ → Option Nat → σ → ZR σ} (hx : Yd X) (hk : ∀ v S, Yd (fun R => K R v S)) : Yd (fun R => zQ (X R) (K R)) := by
  have e : (fun R => zQ (X R) (K R)) = fun R => match X R with
    | some (o, S) => (match o with
      | some (some (.inr (.inr v))) => K R v S
      | none => some (none, S)
      | _ => none)
    | none => none := by
    funext R; unfold zQ; rcases X R with _ | ⟨_ | _ | _ | _ | _, _⟩ <;> rfl
  rw [e]
  refine Yd_bind (K := fun R o S => match o with
      | some (some (.inr (.inr v))) => K R v S
      | none => some (none, S)
      | _ => none) hx (fun o S => ?_)
  rcases o with _ | _ | v | v | v
  · exact Yd_k
  · exact Yd_k
  · exact Yd_k
  · exact Yd_k
  · exact hk v S
theorem Yd_V {X : ZC σ → ZR σ} {K : ZC σ → σ → ZR σ} (hx : Yd X) (hk : ∀ S, Yd (fun R => K R S)) : Yd (fun R => zV (X R) (K R)) := by
  have e : (fun R => zV (X R) (K R)) = fun R => match X R with
    | some (o, S) => (match o with
      | some none => K R S
      | none => some (none, S)
      | _ => none)
    | none => none := by
    funext R; unfold zV; rcases X R with _ | ⟨_ | _ | _ | _ | _, _⟩ <;> rfl
  rw [e]
  refine Yd_bind (K := fun R o S => match o with
      | some none => K R S
      | none => some (none, S)
      | _ => none) hx (fun o S => ?_)
  rcases o with _ | _ | v | v | v
  · exact Yd_k
  · exact hk S
  · exact Yd_k
  · exact Yd_k
  · exact Yd_k
theorem Yd_lnil : ∀ f ∈ ([] : List (zFn σ)), YdF f := fun _ h => nomatch h
theorem Yd_lcons {f : zFn σ} {l : List (zFn σ)} (h : YdF f) (t : ∀ f ∈ l, YdF f) : ∀ g ∈ f :: l, YdF g := fun _ hg => (List.mem_cons.mp hg).elim (fun e => e ▸ h) (t _)
theorem Yd_lapp {l l' : List (zFn σ)} (h : ∀ f ∈ l, YdF f) (t : ∀ f ∈ l', YdF f) : ∀ g ∈ l ++ l', YdF g := fun _ hg => (List.mem_append.mp hg).elim (h _) (t _)
end FD
def zfix {σ : Type} (tf : List (zFn σ)) : Nat → ZC σ
  | 0, _, _, _, _ => none
  | n + 1, d, tag, as, S => match tf[tag]? with
    | some f => f (zfix tf n) d as S
    | none => none
noncomputable def zlim {σ : Type} (F : Nat → ZC σ) : ZC σ := fun d tag as S =>
  haveI : Decidable (∃ r n, F n d tag as S = some r) := Classical.propDecidable _
  if h : ∃ r n, F n d tag as S = some r then some h.choose else none
theorem zfix_mono {σ : Type} {tf : List (zFn σ)} (hf : ∀ f ∈ tf, YdF f) : ∀ n m d tag as (S : σ) r, n ≤ m → zfix tf n d tag as S = some r → zfix tf m d tag as S = some r := by
  intro n
  induction n with
  | zero => intro m d tag as S r _ e; cases e
  | succ n ih =>
    intro m d tag as S r hm e
    obtain ⟨m, rfl⟩ : ∃ k, m = k + 1 := ⟨m - 1, by omega⟩
    unfold zfix at e ⊢
    cases hg : tf[tag]? with
    | none => rw [hg] at e; cases e
    | some f =>
      rw [hg] at e
      obtain ⟨L, hL⟩ := hf f (List.mem_of_getElem? hg) d as S _ _ e
      exact hL _ (fun q _ a ha => ih m _ _ _ _ _ (by omega) ha)
theorem zlim_of {σ : Type} {tf : List (zFn σ)} (hf : ∀ f ∈ tf, YdF f) {n d tag : Nat} {as : List ZV} {S : σ} {r} (e : zfix tf n d tag as S = some r) : zlim (zfix tf) d tag as S = some r := by
  unfold zlim
  have h : ∃ r n, zfix tf n d tag as S = some r := ⟨r, n, e⟩
  rw [dif_pos h]
  obtain ⟨m, em⟩ := h.choose_spec
  have e1 := zfix_mono hf _ (max n m) _ _ _ _ _ (Nat.le_max_left _ _) e
  have e2 := zfix_mono hf _ (max n m) _ _ _ _ _ (Nat.le_max_right _ _) em
  rw [e1] at e2
  rw [← Option.some.inj e2]
theorem zlim_at {σ : Type} {F : Nat → ZC σ} {d tag : Nat} {as : List ZV} {S : σ} {r} (e : zlim F d tag as S = some r) : ∃ n, F n d tag as S = some r := by
  unfold zlim at e
  by_cases h : ∃ r n, F n d tag as S = some r
  · rw [dif_pos h] at e
    obtain ⟨m, em⟩ := h.choose_spec
    exact ⟨m, by rw [em, Option.some.inj e]⟩
  · rw [dif_neg h] at e; cases e
theorem zlim_step {σ : Type} {tf : List (zFn σ)} (hf : ∀ f ∈ tf, YdF f) {d tag : Nat} {as : List ZV} {S : σ} {f : zFn σ} {r} (hg : tf[tag]? = some f) (e : f (zlim (zfix tf)) d as S = some r) : zlim (zfix tf) d tag as S = some r := by
  obtain ⟨L, hL⟩ := hf f (List.mem_of_getElem? hg) d as S _ _ e
  have hN : ∃ N, ∀ q ∈ L, ∀ a, zlim (zfix tf) q.1 q.2.1 q.2.2.1 q.2.2.2 = some a → zfix tf N q.1 q.2.1 q.2.2.1 q.2.2.2 = some a := by
    clear hL e
    induction L with
    | nil => exact ⟨0, fun _ h => nomatch h⟩
    | cons q L ih =>
      obtain ⟨N, h⟩ := ih
      by_cases hq : ∃ a, zlim (zfix tf) q.1 q.2.1 q.2.2.1 q.2.2.2 = some a
      · obtain ⟨a, ha⟩ := hq
        obtain ⟨n, hn⟩ := zlim_at ha
        refine ⟨max N n, fun q' hq' b hb => ?_⟩
        rcases List.mem_cons.mp hq' with rfl | hq'
        · rw [ha] at hb
          rw [← hb]
          exact zfix_mono hf _ _ _ _ _ _ _ (Nat.le_max_right _ _) hn
        · exact zfix_mono hf _ _ _ _ _ _ _ (Nat.le_max_left _ _) (h q' hq' b hb)
      · refine ⟨N, fun q' hq' b hb => ?_⟩
        rcases List.mem_cons.mp hq' with rfl | hq'
        · exact absurd ⟨b, hb⟩ hq
        · exact h q' hq' b hb
  obtain ⟨N, hN⟩ := hN
  have e1 := hL (zfix tf N) hN
  refine zlim_of hf (n := N + 1) ?_
  unfold zfix
  rw [hg]
  exact e1
/-- answers -/
def zW {σ : Type} (x : ZR σ) (Q : Option (Option ZV) → σ → Prop) : Prop := ∃ o S, x = some (o, S) ∧ Q o S
theorem zW_of {σ : Type} {tf : List (zFn σ)} (hf : ∀ f ∈ tf, YdF f) {d tag : Nat} {as : List ZV} {S : σ} {f : zFn σ} {Q : Option (Option ZV) → σ → Prop} (hg : tf[tag]? = some f) (h : zW (f (zlim (zfix tf)) d as S) Q) : zW (zlim (zfix tf) d tag as S) Q := by
  obtain ⟨o, S', e, q⟩ := h
  exact ⟨o, S', zlim_step hf hg e, q⟩
section ZW
variable {σ : Type} {Q Q' : Option (Option ZV) → σ → Prop} {S : σ} {d tag : Nat} {as : List ZV}
theorem zW_mono {x : ZR σ} (h : zW x Q) (k : ∀ o S, Q o S → Q' o S) : zW x Q' := by
  obtain ⟨o, S', e, q⟩ := h
  exact ⟨o, S', e, k _ _ q⟩
theorem zW_eq {x : ZR σ} {o : Option (Option ZV)} (e : x = some (o, S)) (h : Q o S) : zW x Q := ⟨o, S, e, h⟩
theorem zW_s {o : Option (Option ZV)} (h : Q o S) : zW (some (o, S)) Q := ⟨o, S, rfl, h⟩
theorem zW_let {α : Type} {v : α} {k : α → ZR σ} (h : zW (k v) Q) : zW (zlet v k) Q := h
theorem zW_G {p : Prop} [Decidable p] {k : ZR σ} (hp : p) (h : zW k Q) : zW (zG p k) Q := by unfold zG; rw [if_pos hp]; exact h
theorem zW_if {p : Prop} [Decidable p] {A B : ZR σ} (h1 : p → zW A Q) (h2 : ¬ p → zW B Q) : zW (if p then A else B) Q := by
  by_cases hp : p
  · rw [if_pos hp]; exact h1 hp
  · rw [if_neg hp]; exact h2 hp
theorem zW_t {p : Prop} [Decidable p] {A B : ZR σ} (hp : p) (h : zW A Q) : zW (if p then A else B) Q := by rw [if_pos hp]; exact h
theorem zW_f {p : Prop} [Decidable p] {A B : ZR σ} (hp : ¬ p) (h : zW B Q) : zW (if p then A else B) Q := by rw [if_neg hp]; exact h
theorem zW_c {R : ZC σ} (h : zW (R d tag as S) Q) : zW (zc R (d + 1) tag as S) Q := h
theorem zW_rI {v : Int} (h : Q (some (some (.inl v))) S) : zW (zrI v S) Q := zW_s h
theorem zW_rL {v : Int} (h : Q (some (some (.inr (.inl v)))) S) : zW (zrL v S) Q := zW_s h
theorem zW_rQ {v : Option Nat} (h : Q (some (some (.inr (.inr v)))) S) : zW (zrQ v S) Q := zW_s h
theorem zW_rV (h : Q (some none) S) : zW (zrV S) Q := zW_s h
theorem zW_rZ {v : Int} (hv : v = 0 ∨ v = 1) (h : Q (some (some (.inl v))) S) : zW (zrZ v S) Q := by unfold zrZ; rw [if_pos hv]; exact zW_s h
/-- what an answer is: an int, a long, an address, nothing; or something is thrown -/
def oI (P : Int → σ → Prop) (T : σ → Prop) : Option (Option ZV) → σ → Prop := fun o S => match o with
  | none => T S
  | some (some (.inl v)) => P v S
  | _ => False
def oJ (P : Int → σ → Prop) (T : σ → Prop) : Option (Option ZV) → σ → Prop := fun o S => match o with
  | none => T S
  | some (some (.inr (.inl v))) => P v S
  | _ => False
def oQ (P : Option Nat → σ → Prop) (T : σ → Prop) : Option (Option ZV) → σ → Prop := fun o S => match o with
  | none => T S
  | some (some (.inr (.inr v))) => P v S
  | _ => False
def oV (P : σ → Prop) (T : σ → Prop) : Option (Option ZV) → σ → Prop := fun o S => match o with
  | none => T S
  | some none => P S
  | _ => False
theorem zW_I {x : ZR σ} {k : Int → σ → ZR σ} {P : Int → σ → Prop} {T : σ → Prop} (h : zW x (oI P T)) (hk : ∀ v S, P v S → zW (k v S) Q) (ht : ∀ S, T S → Q none S) : zW (zI x k) Q := by
  obtain ⟨o, S', rfl, q⟩ := h
  rcases o with _ | _ | v | v | v
  · exact zW_s (ht _ q)
  · exact False.elim q
  · exact hk _ _ q
  · exact False.elim q
  · exact False.elim q
theorem zW_J {x : ZR σ} {k : Int → σ → ZR σ} {P : Int → σ → Prop} {T : σ → Prop} (h : zW x (oJ P T)) (hk : ∀ v S, P v S → zW (k v S) Q) (ht : ∀ S, T S → Q none S) : zW (zJ x k) Q := by
  obtain ⟨o, S', rfl, q⟩ := h
  rcases o with _ | _ | v | v | v
  · exact zW_s (ht _ q)
  · exact False.elim q
  · exact False.elim q
  · exact hk _ _ q
  · exact False.elim q
theorem zW_Q {x : ZR σ} {k : Option Nat → σ → ZR σ} {P : Option Nat → σ → Prop} {T : σ → Prop} (h : zW x (oQ P T)) (hk : ∀ v S, P v S → zW (k v S) Q) (ht : ∀ S, T S → Q none S) : zW (zQ x k) Q := by
  obtain ⟨o, S', rfl, q⟩ := h
  rcases o with _ | _ | v | v | v
  · exact zW_s (ht _ q)
  · exact False.elim q
  · exact False.elim q
  · exact False.elim q
  · exact hk _ _ q
theorem zW_V {x : ZR σ} {k : σ → ZR σ} {P T : σ → Prop} (h : zW x (oV P T)) (hk : ∀ S, P S → zW (k S) Q) (ht : ∀ S, T S → Q none S) : zW (zV x k) Q := by
  obtain ⟨o, S', rfl, q⟩ := h
  rcases o with _ | _ | v | v | v
  · exact zW_s (ht _ q)
  · exact hk _ q
  · exact False.elim q
  · exact False.elim q
  · exact False.elim q
theorem zW_Ie {x : ZR σ} {k : Int → σ → ZR σ} {v : Int} (e : x = some (some (some (.inl v)), S)) (hk : zW (k v S) Q) : zW (zI x k) Q := by subst e; exact hk
theorem zW_Je {x : ZR σ} {k : Int → σ → ZR σ} {v : Int} (e : x = some (some (some (.inr (.inl v))), S)) (hk : zW (k v S) Q) : zW (zJ x k) Q := by subst e; exact hk
theorem zW_Qe {x : ZR σ} {k : Option Nat → σ → ZR σ} {v : Option Nat} (e : x = some (some (some (.inr (.inr v))), S)) (hk : zW (k v S) Q) : zW (zQ x k) Q := by subst e; exact hk
theorem zW_Ve {x : ZR σ} {k : σ → ZR σ} (e : x = some (some none, S)) (hk : zW (k S) Q) : zW (zV x k) Q := by subst e; exact hk
theorem zI_s {k : Int → σ → ZR σ} {v : Int} : zI (some (some (some (.inl v)), S)) k = k v S := rfl
theorem zJ_s {k : Int → σ → ZR σ} {v : Int} : zJ (some (some (some (.inr (.inl v))), S)) k = k v S := rfl
theorem zQ_s {k : Option Nat → σ → ZR σ} {v : Option Nat} : zQ (some (some (some (.inr (.inr v))), S)) k = k v S := rfl
theorem zV_s {k : σ → ZR σ} : zV (some (some none, S)) k = k S := rfl
theorem zI_n {k : Int → σ → ZR σ} : zI (some (none, S)) k = some (none, S) := rfl
theorem zJ_n {k : Int → σ → ZR σ} : zJ (some (none, S)) k = some (none, S) := rfl
theorem zQ_n {k : Option Nat → σ → ZR σ} : zQ (some (none, S)) k = some (none, S) := rfl
theorem zV_n {k : σ → ZR σ} : zV (some (none, S)) k = some (none, S) := rfl
theorem zc_s {R : ZC σ} : zc R (d + 1) tag as S = R d tag as S := rfl
end ZW
/-! the reference's state -/
abbrev ZS : Type := (Nat → Int) × (Nat → Int) × (Nat → Int → Int) × (Nat → Int → Int)
def zput (S : ZS) (f : Nat) (v : Int) : ZS := (fun g => if g = f then v else S.1 g, S.2)
def zputL (S : ZS) (f : Nat) (v : Int) : ZS := (S.1, fun g => if g = f then v else S.2.1 g, S.2.2)
def zset (S : ZS) (j : Nat) (i v : Int) : ZS := (S.1, S.2.1, fun g k => if g = j ∧ k = i then v else S.2.2.1 g k, S.2.2.2)
def zsetL (S : ZS) (j : Nat) (i v : Int) : ZS := (S.1, S.2.1, S.2.2.1, fun g k => if g = j ∧ k = i then v else S.2.2.2 g k)
def zp (S : ZS) (f : Nat) (v : Int) (k : ZS → ZR ZS) : ZR ZS := k (zput S f v)
def zpZ (S : ZS) (f : Nat) (v : Int) (k : ZS → ZR ZS) : ZR ZS := if v = 0 ∨ v = 1 then k (zput S f v) else none
def zpL (S : ZS) (f : Nat) (v : Int) (k : ZS → ZR ZS) : ZR ZS := k (zputL S f v)
def za (S : ZS) (j L : Nat) (i : Int) (k : Int → ZR ZS) : ZR ZS := if 0 ≤ i ∧ i < L then k (S.2.2.1 j i) else none
def zaL (S : ZS) (j L : Nat) (i : Int) (k : Int → ZR ZS) : ZR ZS := if 0 ≤ i ∧ i < L then k (S.2.2.2 j i) else none
def zs (S : ZS) (j L : Nat) (i v : Int) (k : ZS → ZR ZS) : ZR ZS := if 0 ≤ i ∧ i < L then k (zset S j i v) else none
def zsL (S : ZS) (j L : Nat) (i v : Int) (k : ZS → ZR ZS) : ZR ZS := if 0 ≤ i ∧ i < L then k (zsetL S j i v) else none
def zthrow (f p : Int) (S : ZS) : ZR ZS := some (none, zput (zput S 31 f) 32 p)
def i32 (z : Int) : Int32 := Int32.ofInt z
def i64 (z : Int) : Int64 := Int64.ofInt z
def zdivI (a b : Int) : Int := (i32 a / i32 b).toInt
def zandI (a b : Int) : Int := (i32 a &&& i32 b).toInt
def zorI (a b : Int) : Int := (i32 a ||| i32 b).toInt
def zxorI (a b : Int) : Int := (i32 a ^^^ i32 b).toInt
def zshlI (a b : Int) : Int := (i32 a <<< (i32 b &&& 31)).toInt
def zshrI (a b : Int) : Int := (i32 a >>> (i32 b &&& 31)).toInt
def zdivL (a b : Int) : Int := (i64 a / i64 b).toInt
def zandL (a b : Int) : Int := (i64 a &&& i64 b).toInt
def zorL (a b : Int) : Int := (i64 a ||| i64 b).toInt
def zxorL (a b : Int) : Int := (i64 a ^^^ i64 b).toInt
def zshlL (a b : Int) : Int := (i64 a <<< (Int32.toInt64 (i32 b) &&& 63)).toInt
def zshrL (a b : Int) : Int := (i64 a >>> (Int32.toInt64 (i32 b) &&& 63)).toInt
def zushrL (a b : Int) : Int := (((i64 a).toUInt64 >>> ((Int32.toInt64 (i32 b)).toUInt64 &&& Int64.toUInt64 63)).toInt64).toInt
def zushrI (a b : Int) : Int := ((Int32.toUInt32 (i32 a) >>> (Int32.toUInt32 (i32 b) &&& Int32.toUInt32 31)).toInt32).toInt
def zl2i (a : Int) : Int := (Int64.toInt32 (i64 a)).toInt
def zbyte (a : Int) : Int := ((Int32.toInt8 (i32 a)).toInt32).toInt
def zbool (a : Int) : Int := (i32 a &&& 1).toInt
section ZS
variable {S S' : ZS} {Q : Option (Option ZV) → ZS → Prop} {f g j j' : Nat} {v w i i' : Int}
theorem Yd_zp {k : ZC ZS → ZS → ZR ZS} (h : ∀ S1, Yd (fun R => k R S1)) : Yd (fun R => zp S f v (k R)) := h _
theorem Yd_zpL {k : ZC ZS → ZS → ZR ZS} (h : ∀ S1, Yd (fun R => k R S1)) : Yd (fun R => zpL S f v (k R)) := h _
theorem Yd_zpZ {k : ZC ZS → ZS → ZR ZS} (h : ∀ S1, Yd (fun R => k R S1)) : Yd (fun R => zpZ S f v (k R)) := Yd_if (h _) Yd_k
theorem Yd_za {L : Nat} {k : ZC ZS → Int → ZR ZS} (h : ∀ x, Yd (fun R => k R x)) : Yd (fun R => za S j L i (k R)) := Yd_if (h _) Yd_k
theorem Yd_zaL {L : Nat} {k : ZC ZS → Int → ZR ZS} (h : ∀ x, Yd (fun R => k R x)) : Yd (fun R => zaL S j L i (k R)) := Yd_if (h _) Yd_k
theorem Yd_zs {L : Nat} {k : ZC ZS → ZS → ZR ZS} (h : ∀ S1, Yd (fun R => k R S1)) : Yd (fun R => zs S j L i v (k R)) := Yd_if (h _) Yd_k
theorem Yd_zsL {L : Nat} {k : ZC ZS → ZS → ZR ZS} (h : ∀ S1, Yd (fun R => k R S1)) : Yd (fun R => zsL S j L i v (k R)) := Yd_if (h _) Yd_k
theorem zW_p {k : ZS → ZR ZS} (h : zW (k (zput S f v)) Q) : zW (zp S f v k) Q := h
theorem zW_pL {k : ZS → ZR ZS} (h : zW (k (zputL S f v)) Q) : zW (zpL S f v k) Q := h
theorem zW_pZ {k : ZS → ZR ZS} (hv : v = 0 ∨ v = 1) (h : zW (k (zput S f v)) Q) : zW (zpZ S f v k) Q := zW_t hv h
theorem zW_a {L : Nat} {k : Int → ZR ZS} (hi : 0 ≤ i ∧ i < L) (h : zW (k (S.2.2.1 j i)) Q) : zW (za S j L i k) Q := zW_t hi h
theorem zW_aL {L : Nat} {k : Int → ZR ZS} (hi : 0 ≤ i ∧ i < L) (h : zW (k (S.2.2.2 j i)) Q) : zW (zaL S j L i k) Q := zW_t hi h
theorem zW_st {L : Nat} {k : ZS → ZR ZS} (hi : 0 ≤ i ∧ i < L) (h : zW (k (zset S j i v)) Q) : zW (zs S j L i v k) Q := zW_t hi h
theorem zW_stL {L : Nat} {k : ZS → ZR ZS} (hi : 0 ≤ i ∧ i < L) (h : zW (k (zsetL S j i v)) Q) : zW (zsL S j L i v k) Q := zW_t hi h
theorem zW_th (h : Q none (zput (zput S 31 v) 32 w)) : zW (zthrow v w S) Q := zW_s h
theorem zput_1 : (zput S f v).1 g = if g = f then v else S.1 g := rfl
theorem zput_2 : (zput S f v).2.1 = S.2.1 := rfl
theorem zput_3 : (zput S f v).2.2.1 = S.2.2.1 := rfl
theorem zput_4 : (zput S f v).2.2.2 = S.2.2.2 := rfl
theorem zputL_1 : (zputL S f v).1 = S.1 := rfl
theorem zputL_2 : (zputL S f v).2.1 g = if g = f then v else S.2.1 g := rfl
theorem zputL_3 : (zputL S f v).2.2.1 = S.2.2.1 := rfl
theorem zputL_4 : (zputL S f v).2.2.2 = S.2.2.2 := rfl
theorem zset_1 : (zset S j i v).1 = S.1 := rfl
theorem zset_2 : (zset S j i v).2.1 = S.2.1 := rfl
theorem zset_3 : (zset S j i v).2.2.1 j' i' = if j' = j ∧ i' = i then v else S.2.2.1 j' i' := rfl
theorem zset_4 : (zset S j i v).2.2.2 = S.2.2.2 := rfl
theorem zsetL_1 : (zsetL S j i v).1 = S.1 := rfl
theorem zsetL_2 : (zsetL S j i v).2.1 = S.2.1 := rfl
theorem zsetL_3 : (zsetL S j i v).2.2.1 = S.2.2.1 := rfl
theorem zsetL_4 : (zsetL S j i v).2.2.2 j' i' = if j' = j ∧ i' = i then v else S.2.2.2 j' i' := rfl
end ZS
