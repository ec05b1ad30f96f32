set_option maxRecDepth 100000
/-! WHAT ENDS: a graph in which all ends; what is below something; what a join changes -/
def tFinS (G : TG) (n : Nat) : Prop := ∃ w, tSol (fun _ => true) G n w ∧ ∀ z, z < n → tFin (w z)
/-- depth of a tree that ends -/
noncomputable def tdep (T : Ttr) : Nat := haveI := Classical.propDecidable (tFin T); if h : tFin T then h.choose else 0
/-- the least depth -/
def tDp (T : Ttr) (d : Nat) : Prop := ∀ p : List Ky, d ≤ p.length → T p = none
/-- what is chosen ends -/
def tUfin (G : TG) (n : Nat) (u : Nat → Ttr) : Prop := ∀ z, z < n → G.1 z = z → match G.2 z with
  | (_, .inl _) => tFin (u z)
  | (_, .inr (_, loose, kids)) => loose = true → ∃ d : Nat, ∀ l p, (∀ c, (l, c) ∉ kids) → d ≤ p.length → u z (l :: p) = none
section TFin
variable {adm : Nat → Bool} {G G' : TG} {n n' x y z c : Nat} {v w u : Nat → Ttr} {p q : List Ky} {l : Ky} {T : Ttr}
theorem tdep_sub (h : tFin T) (h0 : T [] ≠ none) : ∃ d, tDp T (d + 1) ∧ ¬ tDp T d := by
  have : ∀ k, tDp T k → ∃ d, tDp T (d + 1) ∧ ¬ tDp T d := by
    intro k
    induction k with
    | zero => intro hk; exact absurd (hk [] (Nat.le_refl _)) h0
    | succ k ih =>
      intro hk
      by_cases e : tDp T k
      · exact ih e
      · exact ⟨k, hk, e⟩
  obtain ⟨d, hd⟩ := h
  exact this d hd
theorem tDp_mono {a b : Nat} (h : tDp T a) (hab : a ≤ b) : tDp T b := fun p hp => h p (by omega)
/-- ranks from a solution in which all ends -/
theorem tFinS_rank (hw : tWF G n) (h : tFinS G n) : ∃ r : Nat → Nat, ∀ z, z < n → G.1 z = z → ∀ e lab loose kids, G.2 z = (e, .inr (lab, loose, kids)) → ∀ l c, (l, c) ∈ kids → r (G.1 c) < r z := by
  obtain ⟨w, hs, hf⟩ := h
  have hd : ∀ z, ∃ d, z < n → tDp (w z) (d + 1) ∧ ¬ tDp (w z) d := by
    intro z
    by_cases hz : z < n
    · obtain ⟨d, q⟩ := tdep_sub (hf z hz) (tSol_some hw hs hz)
      exact ⟨d, fun _ => q⟩
    · exact ⟨0, fun q => absurd q hz⟩
  refine ⟨fun z => (hd z).choose, fun z hz hr e lab loose kids hg l c m => ?_⟩
  have hc := (hw.2 z hz hr e lab loose kids hg).2 l c m
  have h1 := (hd z).choose_spec hz
  have h2 := (hd (G.1 c)).choose_spec (hw.1 c hc).1
  have hsz := (hs.2 z hz hr).2
  rw [hg] at hsz
  have hsub := hsz.2.1 l c m
  show (hd (G.1 c)).choose < (hd z).choose
  generalize (hd z).choose = a at h1
  generalize (hd (G.1 c)).choose = b at h2
  apply Nat.lt_of_not_le
  intro hab
  apply h2.2
  refine tDp_mono (a := a) ?_ hab
  intro p hp
  rw [← hs.1 c hc, ← hsub]
  exact h1.1 (l :: p) (by rw [List.length_cons]; omega)
/-- one place, if its parts end -/
theorem tFin_node {e loose : Bool} {lab : Nat} {kids : List (Ky × Nat)} (hr : G.1 z = z) (hg : G.2 z = (e, .inr (lab, loose, kids))) (k1 : (kids.map Prod.fst).Nodup) (hu : loose = true → ∃ d : Nat, ∀ l p, (∀ c, (l, c) ∉ kids) → d ≤ p.length → u z (l :: p) = none) (hk : ∀ l c, (l, c) ∈ kids → tFin (tV G u c)) : tFin (tV G u z) := by
  have : ∃ d : Nat, ∀ l c, (l, c) ∈ kids → ∀ p : List Ky, d ≤ p.length → tV G u c p = none := by
    clear hu k1 hg
    induction kids with
    | nil => exact ⟨0, fun _ _ m => by cases m⟩
    | cons a kids ih2 =>
      obtain ⟨d1, h1⟩ := ih2 (fun l c m => hk l c (List.mem_cons_of_mem _ m))
      obtain ⟨d2, h2⟩ := hk a.1 a.2 (List.mem_cons_self ..)
      refine ⟨d1 + d2, fun l c m p hp => ?_⟩
      cases m with
      | head => exact h2 p (by omega)
      | tail _ m => exact h1 l c m p (by omega)
  obtain ⟨d, hd⟩ := this
  obtain ⟨d2, hd2⟩ : ∃ d2 : Nat, loose = true → ∀ l p, (∀ c, (l, c) ∉ kids) → d2 ≤ p.length → u z (l :: p) = none := by
    cases loose with
    | true => obtain ⟨d2, q⟩ := hu rfl; exact ⟨d2, fun _ => q⟩
    | false => exact ⟨0, fun q => by cases q⟩
  refine ⟨d + d2 + 1, fun p hp => ?_⟩
  cases p with
  | nil => rw [List.length_nil] at hp; omega
  | cons l p =>
    rw [List.length_cons] at hp
    show tW G u (l :: p) z = none
    cases hf : kids.find? (fun z => z.1 == l) with
    | some q =>
      have m := find_in hf
      rw [tW_k hr hg k1 m]
      exact hd l q.2 m p (by omega)
    | none =>
      have m := find_no hf
      rw [tW_n hr hg m]
      cases loose with
      | true => exact hd2 rfl l p m (by omega)
      | false => rfl
/-- over what ends all ends -/
theorem tV_fin (hw : tWF G n) (h : tFinS G n) (hu : tUfin G n u) : ∀ z, z < n → tFin (tV G u z) := by
  obtain ⟨r, hr⟩ := tFinS_rank hw h
  have key : ∀ k y, r y < k → (y < n ∧ G.1 y = y) → tFin (tV G u y) := by
    refine tFin_rank (n := n) (P := fun y => y < n ∧ G.1 y = y) (r := r) ?_
    rintro y ⟨hy, ry⟩
    refine ⟨hy, ry, ?_⟩
    have hu := hu y hy ry
    have hk := hw.2 y hy ry
    have hr := hr y hy ry
    generalize hg : G.2 y = N at hu hk hr
    obtain ⟨e, o | ⟨lab, loose, kids⟩⟩ := N
    · exact hu
    · obtain ⟨k1, k2⟩ := hk e lab loose kids rfl
      exact ⟨k1, hu, fun l c m => ⟨(hw.1 c (k2 l c m)).2, ⟨(hw.1 c (k2 l c m)).1, (hw.1 c (k2 l c m)).2⟩, hr e lab loose kids rfl l c m⟩⟩
  intro z hz
  have h2 := hw.1 z hz
  have ev : tV G u z = tV G u (G.1 z) := funext fun p => tW_root h2.2 p
  rw [ev]
  exact key _ _ (Nat.lt_succ_self _) ⟨h2.1, h2.2⟩
/-- the plain choice: ints, variables of a text for themselves, open rows with no more -/
def tU0 (G : TG) : Nat → Ttr := fun z => match G.2 z with
  | (_, .inl (k + 2)) => tleaf (3 * k + 1)
  | _ => tleaf 0
theorem tleaf_fin {k : Nat} : tFin (tleaf k) := ⟨1, fun p hp => by
  cases p with
  | nil => simp at hp
  | cons _ _ => rfl⟩
theorem tleaf_eq {k : Nat} (h : adm k = true) : tEq adm (tleaf k) := by
  rw [tEq_iff]
  refine ⟨fun j hj => by cases hj; exact Or.inl h, fun _ l p => ?_⟩
  have e : tsub (tleaf k) l = fun _ => none := rfl
  rw [e]
  induction p with
  | nil => exact fun _ hk => by cases hk
  | cons a p ih => exact Or.inr ih
theorem tleaf_ord : tOrd (tleaf 0) := ⟨Or.inl rfl, fun _ _ => rfl⟩
theorem tnone_eq : tEq adm (fun _ => none) := by
  intro p
  induction p with
  | nil => exact fun _ hk => by cases hk
  | cons a p ih => exact Or.inr ih
theorem tU0_fin : tUfin G n (tU0 G) := by
  intro z hz hr
  unfold tU0
  rcases hg : G.2 z with ⟨e, o | ⟨lab, loose, kids⟩⟩
  · rcases o with _ | _ | k <;> exact tleaf_fin
  · exact fun _ => ⟨0, fun _ _ _ _ => rfl⟩
/-- rigid ones of which equality is asked admit it -/
def tRE (adm : Nat → Bool) (G : TG) (n : Nat) : Prop := ∀ z, z < n → G.1 z = z → ∀ k, G.2 z = (true, .inl (k + 2)) → adm (3 * k + 1) = true
theorem tU0_ok (h0 : adm 0 = true) (hr : tRE adm G n) : tUok adm G n (tU0 G) := by
  intro z hz hz'
  have hr := hr z hz hz'
  unfold tU0
  rcases hg : G.2 z with ⟨e, o | ⟨lab, loose, kids⟩⟩
  · rcases o with _ | _ | k
    · exact ⟨(fun q => by cases q), (fun q => by cases q), fun _ => tleaf_eq h0⟩
    · exact ⟨(fun q => by cases q), fun _ => tleaf_ord, fun _ => tleaf_eq h0⟩
    · refine ⟨(fun q => by cases q), (fun q => by omega), fun q => tleaf_eq (hr k ?_)⟩
      rw [hg, q]
  · intro _ _ _ l _
    have e : tsub (tleaf 0) l = fun _ => none := rfl
    rw [e]; exact tnone_eq
theorem tU0_gen : tGen G n (tV G (tU0 G)) := by
  intro z hz hr e k hg
  funext p
  show tW G (tU0 G) p z = _
  rw [tW_u hr hg]
  unfold tU0
  rw [hg]
/-- there is a solution -/
theorem tSol_ex (hw : tWF G n) (hc : tClo adm G n) (h0 : adm 0 = true) (hr : tRE adm G n) : tSol adm G n (tV G (tU0 G)) ∧ tGen G n (tV G (tU0 G)) := ⟨tV_ok hw (tU0_ok h0 hr) hc, tU0_gen⟩
theorem tSol_ext (hw : tWF G n) : tSol (fun _ => true) G n (tV G (tU0 G)) ∧ tGen G n (tV G (tU0 G)) := ⟨tV_t hw (tU0_ok rfl (fun _ _ _ _ _ => rfl)), tU0_gen⟩
theorem tSol_t (h : tSol adm G n v) : tSol (fun _ => true) G n v := ⟨h.1, fun x hx hr => ⟨fun _ => tEq_t, (h.2 x hx hr).2⟩⟩
theorem tSol_ag (h : ∀ z, z < n → w z = v z) (hw : tWF G n) (hs : tSol adm G n v) : tSol adm G n w := by
  refine ⟨fun z hz => by rw [h z hz, h _ (hw.1 z hz).1]; exact hs.1 z hz, fun z hz hr => ?_⟩
  have hsz := hs.2 z hz hr
  have hk := hw.2 z hz hr
  rcases hg : G.2 z with ⟨e, o | ⟨lab, loose, kids⟩⟩
  · rw [hg] at hsz
    unfold tsat at hsz ⊢
    rw [h z hz]; exact hsz
  · rw [hg] at hsz
    obtain ⟨k1, k2⟩ := hk e lab loose kids hg
    unfold tsat at hsz ⊢
    rw [h z hz]
    exact ⟨hsz.1, hsz.2.1, fun l c m => by rw [h c (k2 l c m)]; exact hsz.2.2.1 l c m, hsz.2.2.2⟩
/-! what lies below two places -/
def tBel (G : TG) (x y c : Nat) : Prop := ∃ p, tPl G p x = some (G.1 c) ∨ tPl G p y = some (G.1 c)
theorem tPl_snoc (hw : tWF G n) : ∀ p x z, x < n → tPl G p x = some z → ∀ e lab loose kids, G.2 z = (e, .inr (lab, loose, kids)) → ∀ l c, (l, c) ∈ kids → tPl G (p ++ [l]) x = some (G.1 c) := by
  intro p
  induction p with
  | nil =>
    intro x z hx e e0 lab loose kids hg l c m
    have e : G.1 x = z := by cases e; rfl
    obtain ⟨h1, h2⟩ := hw.1 x hx
    show tPl G (l :: []) x = _
    have hn := (hw.2 (G.1 x) h1 h2 e0 lab loose kids (by rw [e]; exact hg)).1
    simp only [tPl, e, hg, find_key hn m]
  | cons k p ih =>
    intro x z hx e e0 lab loose kids hg l c m
    obtain ⟨h1, h2⟩ := hw.1 x hx
    have hk := hw.2 (G.1 x) h1 h2
    show tPl G (k :: (p ++ [l])) x = _
    unfold tPl at e ⊢
    rcases hg' : G.2 (G.1 x) with ⟨e1, o | ⟨lab', loose', kids'⟩⟩
    · rw [hg'] at e; cases e
    · rw [hg'] at e
      have e : (match kids'.find? (fun z => z.1 == k) with
        | some z => tPl G p z.2
        | none => none) = some z := e
      show (match kids'.find? (fun z => z.1 == k) with
        | some z => tPl G (p ++ [l]) z.2
        | none => none) = _
      cases hf : kids'.find? (fun z => z.1 == k) with
      | none => rw [hf] at e; cases e
      | some q =>
        rw [hf] at e
        exact ih q.2 z ((hk _ _ _ _ hg').2 _ _ (find_in hf)) e _ _ _ _ hg l c m
theorem tBel_kid (hw : tWF G n) (hx : x < n) (hy : y < n) (h : tBel G x y z) {e : Bool} {lab : Nat} {loose : Bool} {kids : List (Ky × Nat)} (hg : G.2 (G.1 z) = (e, .inr (lab, loose, kids))) (m : (l, c) ∈ kids) : tBel G x y c := by
  obtain ⟨p, h | h⟩ := h
  · exact ⟨p ++ [l], Or.inl (tPl_snoc hw p x _ hx h _ _ _ _ hg l c m)⟩
  · exact ⟨p ++ [l], Or.inr (tPl_snoc hw p y _ hy h _ _ _ _ hg l c m)⟩
theorem tBel_fin (hw : tWF G n) (hs : tSol adm G n w) (hx : x < n) (hy : y < n) (hc : c < n) (fx : tFin (w x)) (fy : tFin (w y)) (h : tBel G x y c) : tFin (w c) := by
  rw [hs.1 c hc]
  obtain ⟨p, h | h⟩ := h
  · obtain ⟨-, -, h3⟩ := tPl_sol hw hs p x hx h
    rw [← h3]; exact tFin_subs fx
  · obtain ⟨-, -, h3⟩ := tPl_sol hw hs p y hy h
    rw [← h3]; exact tFin_subs fy
/-- what a join changes lies below what is joined: G before, G' now -/
def tCh (G G' : TG) (n n' x y : Nat) : Prop := n ≤ n' ∧ (∀ z, z < n → G.1 z = z → tBel G x y z ∨ (G'.1 z = z ∧ G'.2 z = G.2 z)) ∧ (∀ z, z < n' → G'.1 z = z → (z < n ∧ G.1 z = z ∧ G'.2 z = G.2 z) ∨ ∀ e lab loose kids, G'.2 z = (e, .inr (lab, loose, kids)) → ∀ l c, (l, c) ∈ kids → c < n ∧ tBel G x y c)
/-- if what is joined ends, all does -/
theorem tCh_fin (hw : tWF G n) (hw' : tWF G' n') (hf : tFinS G n) (hc : tCh G G' n n' x y) (hx : x < n) (hy : y < n) (hs : ∀ w, tSol (fun _ => true) G' n' w → tSol (fun _ => true) G n w) (fx : tFin (tV G' (tU0 G') x)) (fy : tFin (tV G' (tU0 G') y)) : tFinS G' n' := by
  obtain ⟨c1, c2, c3⟩ := hc
  have s' := (tSol_ext hw').1
  have s := hs _ s'
  refine ⟨_, s', ?_⟩
  have old : ∀ z, z < n → tFin (tV G' (tU0 G') z) := by
    have hu : tUfin G n (tV G' (tU0 G')) := by
      intro z hz hr
      rcases c2 z hz hr with hb | ⟨h1, h2⟩
      · have hfz := tBel_fin hw s hx hy hz fx fy hb
        have hsz := (s.2 z hz hr).2
        rcases hg : G.2 z with ⟨e, o | ⟨lab, loose, kids⟩⟩
        · exact hfz
        · intro _
          obtain ⟨d, hd⟩ := hfz
          exact ⟨d, fun l p _ hp => hd (l :: p) (by rw [List.length_cons]; omega)⟩
      · have hu0 := tU0_fin (G := G') (n := n') z (by omega) h1
        rw [h2] at hu0
        rcases hg : G.2 z with ⟨e0, o | ⟨lab, loose, kids⟩⟩
        · rw [hg] at h2 hu0
          have ev : tV G' (tU0 G') z = tU0 G' z := funext fun p => tW_u h1 h2 p
          show tFin (tV G' (tU0 G') z)
          rw [ev]
          exact hu0
        · intro hl
          rw [hg] at h2 hu0
          obtain ⟨d, hd⟩ := hu0 hl
          refine ⟨d, fun l p hm hp => ?_⟩
          show tW G' (tU0 G') (l :: p) z = none
          rw [tW_n h1 h2 hm, hl]
          exact hd l p hm hp
    intro z hz
    have h3 := tV_fin hw hf hu z hz
    have ev : tV G (tV G' (tU0 G')) z = tV G' (tU0 G') z := funext fun p => tV_only hw s p z hz
    rwa [ev] at h3
  have root : ∀ z, z < n' → G'.1 z = z → tFin (tV G' (tU0 G') z) := by
    intro z hz hr
    rcases c3 z hz hr with ⟨h1, _⟩ | h
    · exact old z h1
    · have hk := hw'.2 z hz hr
      have hu := tU0_fin (G := G') (n := n') z hz hr
      rcases hg : G'.2 z with ⟨e, o | ⟨lab, loose, kids⟩⟩
      · rw [hg] at hu
        have ev : tV G' (tU0 G') z = tU0 G' z := funext fun p => tW_u hr hg p
        rw [ev]; exact hu
      · rw [hg] at hu
        obtain ⟨k1, k2⟩ := hk e lab loose kids hg
        exact tFin_node hr hg k1 hu (fun l c m => old c (h e lab loose kids hg l c m).1)
  intro z hz
  rw [s'.1 z hz]
  exact root _ (hw'.1 z hz).1 (hw'.1 z hz).2
end TFin
