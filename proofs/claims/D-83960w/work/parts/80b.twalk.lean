set_option maxRecDepth 100000
/-! TYPES AS TREES: every valuation is a walk through the graph over what the unknown ones (and the rest of open rows) are -/
def tW (G : TG) (u : Nat → Ttr) : List Ky → Nat → Option Nat
  | [], x => match (G.2 (G.1 x)).2 with
    | .inl _ => u (G.1 x) []
    | .inr q => some q.1
  | k :: p, x => match (G.2 (G.1 x)).2 with
    | .inl _ => u (G.1 x) (k :: p)
    | .inr q => match q.2.2.find? (fun z => z.1 == k) with
      | some z => tW G u p z.2
      | none => if q.2.1 then u (G.1 x) (k :: p) else none
def tV (G : TG) (u : Nat → Ttr) (x : Nat) : Ttr := fun p => tW G u p x
/-- the place at a path -/
def tPl (G : TG) : List Ky → Nat → Option Nat
  | [], x => some (G.1 x)
  | k :: p, x => match (G.2 (G.1 x)).2 with
    | .inl _ => none
    | .inr q => match q.2.2.find? (fun z => z.1 == k) with
      | some z => tPl G p z.2
      | none => none
/-- what unknown ones may be -/
def tUok (adm : Nat → Bool) (G : TG) (n : Nat) (u : Nat → Ttr) : Prop := ∀ x, x < n → G.1 x = x → match G.2 x with
  | (e, .inl o) => u x [] ≠ none ∧ (o = 1 → tOrd (u x)) ∧ (e = true → tEq adm (u x))
  | (e, .inr (lab, loose, kids)) => e = true → loose = true → lab ≠ 18 → ∀ l, (∀ c, (l, c) ∉ kids) → tEq adm (tsub (u x) l)
/-- demands of equality have gone down -/
def tClo (adm : Nat → Bool) (G : TG) (n : Nat) : Prop := ∀ x, x < n → G.1 x = x → ∀ lab loose kids, G.2 x = (true, .inr (lab, loose, kids)) → admq adm lab ∧ (lab ≠ 18 → ∀ l c, (l, c) ∈ kids → (G.2 (G.1 c)).1 = true)
/-- a tree that ends -/
def tFin (T : Ttr) : Prop := ∃ d : Nat, ∀ p : List Ky, d ≤ p.length → T p = none
section TWalk
variable {adm : Nat → Bool} {G : TG} {n x y : Nat} {v u u' : Nat → Ttr} {N : TN} {p q : List Ky} {l : Ky} {c : Nat} {kids : List (Ky × Nat)}
theorem find_key (hn : (kids.map Prod.fst).Nodup) (m : (l, c) ∈ kids) : kids.find? (fun z => z.1 == l) = some (l, c) := by
  induction kids with
  | nil => cases m
  | cons q kids ih =>
    rw [List.map_cons, List.nodup_cons] at hn
    cases m with
    | head => rw [List.find?_cons_of_pos (by simp)]
    | tail _ m =>
      rw [List.find?_cons_of_neg ?_]
      · exact ih hn.2 m
      · intro z
        have z : q.1 = l := by simpa using z
        exact hn.1 (z ▸ List.mem_map.mpr ⟨(l, c), m, rfl⟩)
theorem find_none (h : ∀ c, (l, c) ∉ kids) : kids.find? (fun z => z.1 == l) = none := by
  rw [List.find?_eq_none]
  intro q hq z
  have z : q.1 = l := by simpa using z
  exact h q.2 (by rw [← z]; exact hq)
theorem find_in {z : Ky × Nat} (h : kids.find? (fun z => z.1 == l) = some z) : (l, z.2) ∈ kids := by
  have h1 := List.mem_of_find?_eq_some h
  have h2 : z.1 = l := by simpa using List.find?_some h
  rw [← h2]
  exact h1
theorem find_no (h : kids.find? (fun z => z.1 == l) = none) : ∀ c, (l, c) ∉ kids := by
  rw [List.find?_eq_none] at h
  intro c m
  exact h _ m (by simp)
theorem tW_root (hr : G.1 (G.1 x) = G.1 x) : ∀ p, tW G u p x = tW G u p (G.1 x)
  | [] => by simp only [tW, hr]
  | k :: p => by simp only [tW, hr]
theorem tW_u {o : Nat} {e : Bool} (hr : G.1 x = x) (g : G.2 x = (e, .inl o)) : ∀ p, tW G u p x = u x p
  | [] => by simp only [tW, hr, g]
  | k :: p => by simp only [tW, hr, g]
theorem tW_l {e loose : Bool} {lab : Nat} (hr : G.1 x = x) (g : G.2 x = (e, .inr (lab, loose, kids))) : tW G u [] x = some lab := by simp only [tW, hr, g]
theorem tW_k {e loose : Bool} {lab : Nat} (hr : G.1 x = x) (g : G.2 x = (e, .inr (lab, loose, kids))) (hn : (kids.map Prod.fst).Nodup) (m : (l, c) ∈ kids) : tW G u (l :: p) x = tW G u p c := by simp only [tW, hr, g, find_key hn m]
theorem tW_n {e loose : Bool} {lab : Nat} (hr : G.1 x = x) (g : G.2 x = (e, .inr (lab, loose, kids))) (m : ∀ c, (l, c) ∉ kids) : tW G u (l :: p) x = if loose then u x (l :: p) else none := by simp only [tW, hr, g, find_none m]
/-- a valuation is the walk over itself -/
theorem tV_only (hw : tWF G n) (h : tSol adm G n v) : ∀ p x, x < n → tW G v p x = v x p := by
  intro p
  induction p with
  | nil =>
    intro x hx
    obtain ⟨h1, h2⟩ := hw.1 x hx
    rw [h.1 x hx, tW_root h2]
    have hs := (h.2 _ h1 h2).2
    generalize hg : G.2 (G.1 x) = N at hs
    obtain ⟨e, o | ⟨lab, loose, kids⟩⟩ := N
    · exact tW_u h2 hg []
    · rw [tW_l h2 hg]; exact hs.1.symm
  | cons k p ih =>
    intro x hx
    obtain ⟨h1, h2⟩ := hw.1 x hx
    rw [h.1 x hx, tW_root h2]
    have hs := (h.2 _ h1 h2).2
    have hk := hw.2 _ h1 h2
    generalize hg : G.2 (G.1 x) = N at hs hk
    obtain ⟨e, o | ⟨lab, loose, kids⟩⟩ := N
    · exact tW_u h2 hg _
    · obtain ⟨k1, k2⟩ := hk e lab loose kids rfl
      obtain ⟨-, s2, s3⟩ := hs
      cases hf : kids.find? (fun z => z.1 == k) with
      | some z =>
        have m := find_in hf
        rw [tW_k h2 hg k1 m, ih _ (k2 _ _ m), ← s2 _ _ m]
        rfl
      | none =>
        have m := find_no hf
        rw [tW_n h2 hg m]
        cases loose with
        | true => rfl
        | false => exact (s3 rfl k p m).symm
/-- a walk over what may be is a valuation, but for the demands of equality -/
theorem tV_sol (hw : tWF G n) (hu : tUok adm G n u) (he : ∀ x, x < n → G.1 x = x → (G.2 x).1 = true → tEq adm (tV G u x)) : tSol adm G n (tV G u) := by
  refine ⟨fun x hx => funext fun p => tW_root (hw.1 x hx).2 p, fun x hx hr => ⟨he x hx hr, ?_⟩⟩
  have hu := hu x hx hr
  have hk := hw.2 x hx hr
  generalize hg : G.2 x = N at hu hk
  obtain ⟨e, o | ⟨lab, loose, kids⟩⟩ := N
  · have ev : tV G u x = u x := funext fun p => tW_u hr hg p
    show tV G u x [] ≠ none ∧ (o = 1 → tOrd (tV G u x))
    rw [ev]
    exact ⟨hu.1, hu.2.1⟩
  · obtain ⟨k1, k2⟩ := hk e lab loose kids rfl
    refine ⟨tW_l hr hg, fun l c m => funext fun p => tW_k hr hg k1 m, fun q l p m => ?_⟩
    show tW G u (l :: p) x = none
    rw [tW_n hr hg m, q]
    rfl
/-- closed demands are met -/
theorem tV_eq (hw : tWF G n) (hu : tUok adm G n u) (hc : tClo adm G n) : ∀ p x, x < n → (G.2 (G.1 x)).1 = true → tEqp adm p (tV G u x) := by
  intro p
  induction p with
  | nil =>
    intro x hx he k hk
    obtain ⟨h1, h2⟩ := hw.1 x hx
    have hk : tW G u [] x = some k := hk
    rw [tW_root h2] at hk
    have hu := hu _ h1 h2
    have hc := hc _ h1 h2
    generalize hg : G.2 (G.1 x) = N at he hu hc
    obtain ⟨e, o | ⟨lab, loose, kids⟩⟩ := N
    · rw [tW_u h2 hg] at hk
      exact hu.2.2 he [] k hk
    · rw [tW_l h2 hg] at hk
      have he : e = true := he
      subst he
      rw [← Option.some.inj hk]
      exact (hc lab loose kids rfl).1
  | cons k p ih =>
    intro x hx he
    obtain ⟨h1, h2⟩ := hw.1 x hx
    have hu := hu _ h1 h2
    have hc := hc _ h1 h2
    have hk := hw.2 _ h1 h2
    show tW G u [] x = some 18 ∨ tEqp adm p (tsub (tV G u x) k)
    have ev : tsub (tV G u x) k = fun p => tW G u (k :: p) (G.1 x) := funext fun p => tW_root h2 (k :: p)
    rw [ev, tW_root h2]
    generalize hg : G.2 (G.1 x) = N at he hu hc hk
    obtain ⟨e, o | ⟨lab, loose, kids⟩⟩ := N
    · have := hu.2.2 he (k :: p)
      rw [tW_u h2 hg]
      have e2 : (fun p => tW G u (k :: p) (G.1 x)) = tsub (u (G.1 x)) k := funext fun p => tW_u h2 hg _
      rw [e2]
      exact this
    · have he : e = true := he
      subst he
      obtain ⟨c1, c2⟩ := hc lab loose kids rfl
      obtain ⟨k1, k2⟩ := hk true lab loose kids rfl
      rw [tW_l h2 hg]
      by_cases h18 : lab = 18
      · exact Or.inl (by rw [h18])
      · refine Or.inr ?_
        cases hf : kids.find? (fun z => z.1 == k) with
        | some z =>
          have m := find_in hf
          have e2 : (fun p => tW G u (k :: p) (G.1 x)) = tV G u z.2 := funext fun p => tW_k h2 hg k1 m
          rw [e2]
          exact ih z.2 (k2 _ _ m) (c2 h18 _ _ m)
        | none =>
          have m := find_no hf
          cases loose with
          | true =>
            have e2 : (fun p => tW G u (k :: p) (G.1 x)) = tsub (u (G.1 x)) k := funext fun p => by rw [tW_n h2 hg m]; rfl
            rw [e2]
            exact hu rfl rfl h18 k m p
          | false =>
            have e2 : (fun p => tW G u (k :: p) (G.1 x)) = fun _ => none := funext fun p => by rw [tW_n h2 hg m]; rfl
            rw [e2]
            have nn : ∀ p, tEqp adm p (fun _ => none) := by
              intro p
              induction p with
              | nil => exact fun _ h => by cases h
              | cons k p ih => exact Or.inr ih
            exact nn p
theorem tV_ok (hw : tWF G n) (hu : tUok adm G n u) (hc : tClo adm G n) : tSol adm G n (tV G u) := tV_sol hw hu (fun x hx hr he p => tV_eq hw hu hc p x hx (by rw [hr]; exact he))
theorem tV_t (hw : tWF G n) (hu : tUok (fun _ => true) G n u) : tSol (fun _ => true) G n (tV G u) := tV_sol hw hu (fun _ _ _ _ => tEq_t)
/-- what a valuation is made over is fit -/
theorem tSol_u (h : tSol adm G n v) : tUok adm G n v := by
  intro x hx hr
  have hs := h.2 x hx hr
  generalize hg : G.2 x = N at hs
  obtain ⟨e, o | ⟨lab, loose, kids⟩⟩ := N
  · exact ⟨hs.2.1, hs.2.2, hs.1⟩
  · intro he _ h18 l m
    exact (tEq_iff.mp (hs.1 he)).2 (by rw [hs.2.1]; exact fun z => h18 (by cases z; rfl)) l
/-! places at paths -/
theorem tPl_sol (hw : tWF G n) (h : tSol adm G n v) : ∀ p x, x < n → tPl G p x = some y → y < n ∧ G.1 y = y ∧ tsubs (v x) p = v y := by
  intro p
  induction p with
  | nil =>
    intro x hx e
    cases e
    exact ⟨(hw.1 x hx).1, (hw.1 x hx).2, h.1 x hx⟩
  | cons k p ih =>
    intro x hx e
    obtain ⟨h1, h2⟩ := hw.1 x hx
    have hs := (h.2 _ h1 h2).2
    have hk := hw.2 _ h1 h2
    unfold tPl at e
    generalize hg : G.2 (G.1 x) = N at e hs hk
    obtain ⟨e0, o | ⟨lab, loose, kids⟩⟩ := N
    · cases e
    · obtain ⟨k1, k2⟩ := hk e0 lab loose kids rfl
      have e : (match kids.find? (fun z => z.1 == k) with
        | some z => tPl G p z.2
        | none => none) = some y := e
      cases hf : kids.find? (fun z => z.1 == k) with
      | none => rw [hf] at e; cases e
      | some z =>
        rw [hf] at e
        have m := find_in hf
        obtain ⟨r1, r2, r3⟩ := ih z.2 (k2 _ _ m) e
        refine ⟨r1, r2, ?_⟩
        rw [← r3, ← hs.2.1 _ _ m, h.1 x hx]
        rfl
theorem tRing {T : Ttr} {p : List Ky} (hp : p ≠ []) (h : tsubs T p = T) (h0 : T [] ≠ none) : ¬ tFin T := by
  rintro ⟨d, hd⟩
  have hp1 : 1 ≤ p.length := by
    cases p with
    | nil => exact absurd rfl hp
    | cons a p => exact Nat.le_add_left _ _
  have key : ∀ k : Nat, ∃ q : List Ky, k ≤ q.length ∧ tsubs T q = T := by
    intro k
    induction k with
    | zero => exact ⟨[], Nat.zero_le _, rfl⟩
    | succ k ih =>
      obtain ⟨q, h1, h2⟩ := ih
      refine ⟨p ++ q, by rw [List.length_append]; omega, ?_⟩
      funext r
      show T ((p ++ q) ++ r) = T r
      rw [List.append_assoc]
      exact (congrFun h (q ++ r)).trans (congrFun h2 r)
  obtain ⟨q, h1, h2⟩ := key d
  apply h0
  have e : T q = T [] := by
    have := congrFun h2 []
    unfold tsubs at this
    rwa [List.append_nil] at this
  rw [← e]
  exact hd q h1
theorem tFin_subs {T : Ttr} (h : tFin T) : tFin (tsubs T p) := by
  obtain ⟨d, hd⟩ := h
  exact ⟨d, fun q hq => hd (p ++ q) (by rw [List.length_append]; omega)⟩
/-- a ring has no tree that ends -/
theorem tRing_no (hw : tWF G n) (hx : x < n) (hp : tPl G p x = some y) (hq : tPl G q y = some y) (hq0 : q ≠ []) : ¬ (tSol adm G n v ∧ tFin (v x)) := by
  rintro ⟨h, hf⟩
  obtain ⟨y1, y2, y3⟩ := tPl_sol hw h p x hx hp
  obtain ⟨-, -, z3⟩ := tPl_sol hw h q y y1 hq
  have h0 := tSol_some hw h y1
  exact tRing hq0 z3 h0 (by rw [← y3]; exact tFin_subs hf)
/-- where places have ranks, all ends -/
theorem tFin_rank {P : Nat → Prop} {r : Nat → Nat} (hP : ∀ y, P y → y < n ∧ G.1 y = y ∧ match G.2 y with
  | (_, .inl _) => tFin (u y)
  | (_, .inr (_, loose, kids)) => (kids.map Prod.fst).Nodup ∧ (loose = true → ∃ d : Nat, ∀ l p, (∀ c, (l, c) ∉ kids) → d ≤ p.length → u y (l :: p) = none) ∧ ∀ l c, (l, c) ∈ kids → G.1 (G.1 c) = G.1 c ∧ P (G.1 c) ∧ r (G.1 c) < r y) : ∀ k y, r y < k → P y → tFin (tV G u y) := by
  intro k
  induction k with
  | zero => intro y h; omega
  | succ k ih =>
    intro y hk hy
    obtain ⟨-, hr, hg⟩ := hP y hy
    generalize e : G.2 y = N at hg
    obtain ⟨e0, o | ⟨lab, loose, kids⟩⟩ := N
    · have ev : tV G u y = u y := funext fun p => tW_u hr e p
      rw [ev]
      exact hg
    · obtain ⟨k1, k2, k3⟩ := hg
      have : ∃ d : Nat, ∀ l c, (l, c) ∈ kids → ∀ p : List Ky, d ≤ p.length → tV G u c p = none := by
        have all : ∀ l c, (l, c) ∈ kids → tFin (tV G u c) := by
          intro l c m
          obtain ⟨q1, q2, q3⟩ := k3 l c m
          have ev : tV G u c = tV G u (G.1 c) := funext fun p => tW_root q1 p
          rw [ev]
          exact ih _ (by omega) q2
        clear k1 k2 k3 e
        induction kids with
        | nil => exact ⟨0, fun _ _ m => by cases m⟩
        | cons a kids ih2 =>
          obtain ⟨d1, h1⟩ := ih2 (fun l c m => all l c (List.mem_cons_of_mem _ m))
          obtain ⟨d2, h2⟩ := all a.1 a.2 (List.mem_cons_self ..)
          refine ⟨d1 + d2, fun l c m p hp => ?_⟩
          cases m with
          | head => exact h2 p (by omega)
          | tail _ m => exact h1 l c m p (by omega)
      obtain ⟨d, hd⟩ := this
      obtain ⟨d2, hd2⟩ : ∃ d2 : Nat, loose = true → ∀ l p, (∀ c, (l, c) ∉ kids) → d2 ≤ p.length → u y (l :: p) = none := by
        cases loose with
        | true => obtain ⟨d2, q⟩ := k2 rfl; exact ⟨d2, fun _ => q⟩
        | false => exact ⟨0, fun q => by cases q⟩
      refine ⟨d + d2 + 1, fun p hp => ?_⟩
      cases p with
      | nil => rw [List.length_nil] at hp; omega
      | cons l p =>
        rw [List.length_cons] at hp
        show tW G u (l :: p) y = none
        cases hf : kids.find? (fun z => z.1 == l) with
        | some z =>
          have m := find_in hf
          rw [tW_k hr e k1 m]
          exact hd l z.2 m p (by omega)
        | none =>
          have m := find_no hf
          rw [tW_n hr e m]
          cases loose with
          | true => exact hd2 rfl l p m (by omega)
          | false => rfl
/-- other choices for what is not met on the way do not matter -/
theorem tW_alike {P : Nat → Prop} (hP : ∀ y, P y → u y = u' y ∧ ∀ e lab loose kids, G.2 y = (e, .inr (lab, loose, kids)) → ∀ l c, (l, c) ∈ kids → P (G.1 c)) : ∀ p x, P (G.1 x) → tW G u p x = tW G u' p x := by
  intro p
  induction p with
  | nil =>
    intro x hx
    simp only [tW, (hP _ hx).1]
  | cons k p ih =>
    intro x hx
    obtain ⟨h1, h2⟩ := hP _ hx
    simp only [tW, h1]
    generalize hg : G.2 (G.1 x) = N at h2
    obtain ⟨e, o | ⟨lab, loose, kids⟩⟩ := N
    · rfl
    · dsimp only
      cases hf : kids.find? (fun z => z.1 == k) with
      | none => rfl
      | some z => exact ih z.2 (h2 _ _ _ _ rfl _ _ (find_in hf))
end TWalk
