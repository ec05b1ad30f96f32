set_option maxRecDepth 100000
/-! THE REFERENCE'S TYPES: whether a type is within itself -/
abbrev zymk (S : ZS) (x : Int) : Int := S.2.2.1 27 x
/-- places under way, the latest first, with what is left of their parts -/
def zSk (S : ZS) : List (Nat × List Nat) → Prop
  | [] => True
  | q :: K => S.2.2.1 40 (K.length : Int) = (q.1 : Int) ∧ ZCh S q.2 (S.2.2.1 41 (K.length : Int)) ∧ zSk S K
def zsz : List (Nat × List Nat) → Nat
  | [] => 0
  | q :: K => q.2.length + 1 + zsz K
/-- all marks are old -/
def zMk (S : ZS) : Prop := 0 ≤ S.1 68 ∧ ∀ z : Int, 0 ≤ z → z < 57000 → zymk S z ≤ S.1 68 + 1
/-- unknown or a variable -/
def tlf (G : TG) (z : Nat) : Prop := ∃ e o, G.2 z = (e, .inl o)
/-- what has been gone through: parts of those are, too, or are unknown -/
def tBk (G : TG) (n : Nat) (Bk : Nat → Prop) (rk : Nat → Nat) (c : Nat) : Prop := ∀ z, Bk z → (z < n ∧ G.1 z = z ∧ rk z < c) ∧ ∀ l d, (l, d) ∈ tkids (G.2 z) → (Bk (G.1 d) ∧ rk (G.1 d) < rk z) ∨ tlf G (G.1 d)
/-- the stack: each below the next one, of what is not left all is through but for the next one -/
def tStk (S : ZS) (G : TG) (n : Nat) (fl : Nat → List Nat) (Bk : Nat → Prop) (x : Nat) : Option Nat → List (Nat × List Nat) → Prop
  | _, [] => True
  | up, q :: K => (q.1 < n ∧ G.1 q.1 = q.1 ∧ ¬ Bk q.1 ∧ q.1 ∉ K.map Prod.fst) ∧ (∃ D, fl q.1 = D ++ q.2 ∧ ∀ f ∈ D, Bk (G.1 (zft S f).toNat) ∨ tlf G (G.1 (zft S f).toNat) ∨ up = some (G.1 (zft S f).toNat)) ∧ (match K with
    | [] => q.1 = x
    | q' :: _ => ∃ f ∈ fl q'.1, G.1 (zft S (f : Nat)).toNat = q.1) ∧ tStk S G n fl Bk x (some q.1) K
section ZRing
variable {adm : Nat → Bool} {d : Nat} {S S1 S' S0 : ZS} {μ : Zmp} {G G' G0 : TG} {n n' m x y z a b : Nat} {fl fl' : Nat → List Nat} {B B' : Nat → Zfl} {F : List Nat} {N : TN} {Q : Option (Option ZV) → ZS → Prop} {i v w c f l t : Int} {R R' : Nat → Prop} {W : TW} {E : List Nat} {K : List (Nat × List Nat)} {Bk : Nat → Prop} {rk : Nat → Nat}
/-- parts of a place, as fields -/
theorem ZG_kid (h : ZG S μ G n fl B R) (hx : x < n) (hr : G.1 x = x) {l : Ky} {k : Nat} (m : (l, k) ∈ tkids (G.2 x)) : ∃ f ∈ fl x, k = (zft S (f : Nat)).toNat := by
  rcases h.2.2.2.2.1 x hx hr with ⟨_, q, _⟩ | ⟨_, ⟨i, q, _⟩, _⟩ | ⟨_, _, q, _⟩ | ⟨_, _, q, _⟩
  · rw [q] at m; exact absurd m (List.not_mem_nil)
  · rw [q] at m; exact absurd m (List.not_mem_nil)
  · rw [q] at m
    obtain ⟨f, m, _, e⟩ := zkd_mem.mp m
    exact ⟨f, m, e⟩
  · rw [q] at m
    obtain ⟨f, m, _, e⟩ := zkd_mem.mp m
    exact ⟨f, m, e⟩
theorem ZG_fld (h : ZG S μ G n fl B R) (hw : tWF G n) (hx : x < n) (hr : G.1 x = x) {f : Nat} (m : f ∈ fl x) : (∃ l, (l, (zft S (f : Nat)).toNat) ∈ tkids (G.2 x)) ∧ (zft S (f : Nat)).toNat < n ∧ 0 ≤ zft S (f : Nat) := by
  have nn : ∀ {F : List Nat} {x : Int}, ZCh S F x → ∀ f ∈ F, 0 ≤ zft S (f : Nat) := by
    intro F
    induction F with
    | nil => exact fun _ f m => absurd m (List.not_mem_nil)
    | cons g F ih =>
      intro x hx f m
      rcases List.mem_cons.mp m with rfl | m
      · exact hx.2.2.1
      · exact ih hx.2.2.2 f m
  rcases h.2.2.2.2.1 x hx hr with ⟨_, _, q⟩ | ⟨_, _, q⟩ | ⟨_, _, q, ch, _⟩ | ⟨_, _, q, ch, _⟩
  · rw [q] at m; exact absurd m (List.not_mem_nil)
  · rw [q] at m; exact absurd m (List.not_mem_nil)
  · have hm : (kA (zfl S (f : Nat)), (zft S (f : Nat)).toNat) ∈ zkd S kA (fl x) := zkd_mem.mpr ⟨f, m, rfl, rfl⟩
    exact ⟨⟨_, by rw [q]; exact hm⟩, (hw.2 x hx hr _ _ _ _ q).2 _ _ hm, nn ch f m⟩
  · have hm : (mK μ (zfl S (f : Nat)), (zft S (f : Nat)).toNat) ∈ zkd S (mK μ) (fl x) := zkd_mem.mpr ⟨f, m, rfl, rfl⟩
    exact ⟨⟨_, by rw [q]; exact hm⟩, (hw.2 x hx hr _ _ _ _ q).2 _ _ hm, nn ch f m⟩
/-- from any place under way there is a way to the latest -/
theorem tStk_path (h : ZG S μ G n fl B R) (hw : tWF G n) : ∀ {K : List (Nat × List Nat)} {q : Nat × List Nat} {up : Option Nat}, tStk S G n fl Bk x up (q :: K) → ∀ t ∈ (q :: K).map Prod.fst, ∃ p, tPl G p t = some q.1
  | [], q, up, hs, t, m => by
    have m : t = q.1 := by simpa using m
    exact ⟨[], by rw [m]; show some (G.1 q.1) = _; rw [hs.1.2.1]⟩
  | q' :: K, q, up, hs, t, m => by
    rcases List.mem_cons.mp m with e | m
    · exact ⟨[], by rw [e]; show some (G.1 q.1) = _; rw [hs.1.2.1]⟩
    · obtain ⟨p, hp⟩ := tStk_path h hw hs.2.2.2 t m
      obtain ⟨f, mf, e⟩ := hs.2.2.1
      have hq' := hs.2.2.2.1
      obtain ⟨⟨l, ml⟩, hk, _⟩ := ZG_fld h hw hq'.1 hq'.2.1 mf
      rcases hg : G.2 q'.1 with ⟨e0, o | ⟨lab, loose, kids⟩⟩
      · rw [hg] at ml; exact absurd ml (List.not_mem_nil)
      · rw [hg] at ml
        have ht : t < n := by
          have : ∀ {K : List (Nat × List Nat)} {up : Option Nat}, tStk S G n fl Bk x up K → ∀ t ∈ K.map Prod.fst, t < n := by
            intro K
            induction K with
            | nil => exact fun _ t m => absurd m (List.not_mem_nil)
            | cons q K ih =>
              intro up hs t m
              rcases List.mem_cons.mp m with e | m
              · rw [e]; exact hs.1.1
              · exact ih hs.2.2.2 t m
          exact this hs.2.2.2 t m
        have := tPl_snoc hw p t q'.1 ht hp _ _ _ _ hg l _ ml
        exact ⟨p ++ [l], by rw [this, e]⟩
theorem tStk_bot : ∀ {K : List (Nat × List Nat)} {q : Nat × List Nat} {up : Option Nat}, tStk S G n fl Bk x up (q :: K) → x ∈ (q :: K).map Prod.fst
  | [], q, up, hs => by
    have : q.1 = x := hs.2.2.1
    rw [← this]; exact List.mem_cons_self ..
  | q' :: K, q, up, hs => List.mem_cons_of_mem _ (tStk_bot hs.2.2.2)
/-- all is through: what x is over ends ends -/
theorem tBk_fin {u : Nat → Ttr} (hw : tWF G n) (hb : tBk G n Bk rk m) (hu : tUfin G n u) (hx : x < n) (hr : G.1 x = x) (h : Bk x ∨ tlf G x) : tFin (tV G u x) := by
  have key : ∀ k y, rk y < k → (Bk y ∨ (tlf G y ∧ y < n ∧ G.1 y = y)) → tFin (tV G u y) := by
    intro k
    induction k with
    | zero => intro y h; omega
    | succ k ih =>
      intro y hk hy
      by_cases lf : tlf G y ∧ y < n ∧ G.1 y = y
      · obtain ⟨⟨e, o, hg⟩, h1, h2⟩ := lf
        have := hu y h1 h2
        rw [hg] at this
        rw [show tV G u y = u y from funext fun p => tW_u h2 hg p]
        exact this
      · have hB := hy.resolve_right lf
        obtain ⟨⟨h1, h2, _⟩, h3⟩ := hb y hB
        have hu' := hu y h1 h2
        rcases hg : G.2 y with ⟨e, o | ⟨lab, loose, kids⟩⟩
        · exact absurd ⟨⟨e, o, hg⟩, h1, h2⟩ lf
        · rw [hg] at hu' h3
          have hk' := hw.2 y h1 h2 _ _ _ _ hg
          refine tFin_node h2 hg hk'.1 hu' (fun l d md => ?_)
          have hd := hw.1 d (hk'.2 l d md)
          have ev : tV G u d = tV G u (G.1 d) := funext fun p => tW_root hd.2 p
          rw [ev]
          rcases h3 l d md with ⟨q1, q2⟩ | q
          · exact ih _ (by omega) (Or.inl q1)
          · obtain ⟨e', o, hg'⟩ := q
            have := hu _ hd.1 hd.2
            rw [hg'] at this
            rw [show tV G u (G.1 d) = u (G.1 d) from funext fun p => tW_u hd.2 hg' p]
            exact this
  exact key _ x (Nat.lt_succ_self _) (h.imp (fun q => q) (fun q => ⟨q, hx, hr⟩))
theorem zSk_eq : ∀ {K : List (Nat × List Nat)}, (∀ i : Int, i < K.length → S'.2.2.1 40 i = S.2.2.1 40 i ∧ S'.2.2.1 41 i = S.2.2.1 41 i) → S'.1 67 = S.1 67 → S'.2.2.1 30 = S.2.2.1 30 → S'.2.2.1 31 = S.2.2.1 31 → zSk S K → zSk S' K
  | [], _, _, _, _, _ => trivial
  | q :: K, e, h67, h30, h31, h => by
    have q1 := e (K.length : Int) (by rw [List.length_cons]; omega)
    refine ⟨by rw [q1.1]; exact h.1, ?_, zSk_eq (fun i hi => e i (by rw [List.length_cons]; omega)) h67 h30 h31 h.2.2⟩
    rw [q1.2]
    exact ZCh_eq (by rw [h67]; exact Int.le_refl _) (fun f _ => ⟨by show S'.2.2.1 30 _ = _; rw [h30], by show S'.2.2.1 31 _ = _; rw [h31]⟩) h.2.1
end ZRing
