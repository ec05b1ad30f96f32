set_option maxRecDepth 100000
/-! WHAT IS GENERAL: P, unknown ones that are, and Q, all that has such in it. What a general type may be. -/
def tGQ (G : TG) (n : Nat) (P Q : Nat → Prop) : Prop := (∀ z, Q z → z < n ∧ G.1 z = z) ∧ (∀ z, P z → Q z ∧ ∃ e, G.2 z = (e, .inl 0)) ∧ (∀ z, z < n → G.1 z = z → ¬ Q z → ∀ l c, (l, c) ∈ tkids (G.2 z) → ¬ Q (G.1 c)) ∧ ∀ z, Q z → ∀ e lab kids, G.2 z ≠ (e, .inr (lab, true, kids))
/-- demands of equality have gone down, whatever admits it -/
def tDn (G : TG) (n : Nat) : Prop := ∀ z, z < n → G.1 z = z → ∀ lab loose kids, G.2 z = (true, .inr (lab, loose, kids)) → lab ≠ 18 → ∀ l c, (l, c) ∈ kids → (G.2 (G.1 c)).1 = true
noncomputable def tup (w : Nat → Ttr) (P : Nat → Prop) (f : Nat → Ttr) : Nat → Ttr := fun z => @ite Ttr (P z) (Classical.propDecidable _) (f z) (w z)
def tokP (adm : Nat → Bool) (G : TG) (P : Nat → Prop) (f : Nat → Ttr) : Prop := ∀ z, P z → f z [] ≠ none ∧ ((G.2 z).1 = true → tEq adm (f z))
def tInst (G : TG) (P : Nat → Prop) (adm : Nat → Bool) (w : Nat → Ttr) (b : Nat) (T : Ttr) : Prop := ∃ f, tokP adm G P f ∧ T = tV G (tup w P f) b
/-- schemes, as the types see them -/
abbrev TI : Type := (Nat → Bool) → Sv → Ttr → Prop
def TSc (G : TG) (n : Nat) (P : Nat → Prop) (ρ : Nat → Nat) (nv b : Nat) (I : TI) : Prop := b < n ∧ (∀ adm w, tSol adm G n w → ∀ T, I adm (fun k => w (ρ k)) T ↔ tInst G P adm w b T) ∧ ∀ v v', sag nv v v' → ∀ adm T, I adm v T ↔ I adm v' T
/-- one graph has another one's places as they were -/
def tExt (G : TG) (n : Nat) (G' : TG) (n' : Nat) : Prop := n ≤ n' ∧ ∀ z, z < n → G'.1 z = G.1 z ∧ G'.2 z = G.2 z
section TGen
variable {adm : Nat → Bool} {G0 G G' : TG} {n0 n n' nv x y z c b : Nat} {v w w2 u f : Nat → Ttr} {S : TS} {ρ : Nat → Nat} {P Q P' Q' : Nat → Prop} {I : TI} {p : List Ky} {l : Ky} {T : Ttr}
theorem tup_p (h : P z) : tup w P f z = f z := if_pos h
theorem tup_n (h : ¬ P z) : tup w P f z = w z := if_neg h
theorem tClo_of (hd : tDn G n) (hs : tSol adm G n w) : tClo adm G n := by
  intro z hz hr lab loose kids hg
  refine ⟨?_, hd z hz hr lab loose kids hg⟩
  have hsz := hs.2 z hz hr
  rw [hg] at hsz
  exact (tEq_iff.mp (hsz.1 rfl)).1 lab hsz.2.1
theorem tup_sol (hw : tWF G n) (hd : tDn G n) (hq : tGQ G n P Q) (hs : tSol adm G n w) (hf : tokP adm G P f) : tSol adm G n (tV G (tup w P f)) := by
  refine tV_ok hw (fun z hz hr => ?_) (tClo_of hd hs)
  have hu := tSol_u hs z hz hr
  by_cases hp : P z
  · obtain ⟨_, e, hg⟩ := hq.2.1 z hp
    have h1 := hf z hp
    rw [hg] at h1
    rw [hg, tup_p hp]
    exact ⟨h1.1, (fun q => by cases q), h1.2⟩
  · rcases hg : G.2 z with ⟨e, o | ⟨lab, loose, kids⟩⟩
    · rw [hg] at hu; rw [tup_n hp]; exact hu
    · rw [hg] at hu; rw [tup_n hp]; exact hu
/-- what has nothing general in it is as it was -/
theorem tup_c (hw : tWF G n) (hq : tGQ G n P Q) (hs : tSol adm G n w) (hz : z < n) (hc : ¬ Q (G.1 z)) : tV G (tup w P f) z = w z := by
  funext p
  rw [← tV_only hw hs p z hz]
  refine tW_alike (P := fun y => (y < n ∧ G.1 y = y) ∧ ¬ Q y) (fun y hy => ⟨tup_n (fun q => hy.2 (hq.2.1 y q).1), fun e lab loose kids hg l c m => ?_⟩) p z ⟨hw.1 z hz, hc⟩
  have hk := (hw.2 y hy.1.1 hy.1.2 e lab loose kids hg).2 l c m
  exact ⟨hw.1 c hk, hq.2.2.1 y hy.1.1 hy.1.2 hy.2 l c (by rw [hg]; exact m)⟩
/-- a general choice: the same again -/
theorem tInst_self (hq : tGQ G n P Q) (hw : tWF G n) (hs : tSol adm G n w) (hb : b < n) : tInst G P adm w b (w b) := by
  refine ⟨w, fun z hp => ?_, ?_⟩
  · obtain ⟨h1, e, hg⟩ := hq.2.1 z hp
    obtain ⟨h2, h3⟩ := hq.1 z h1
    have := tSol_u hs z h2 h3
    rw [hg] at this ⊢
    exact ⟨this.1, this.2.2⟩
  · have : tup w P w = w := by
      funext z
      by_cases hp : P z
      · exact tup_p hp
      · exact tup_n hp
    rw [this]
    exact (funext fun p => tV_only hw hs p b hb).symm
theorem tInst_c (hq : tGQ G n P Q) (hw : tWF G n) (hs : tSol adm G n w) (hb : b < n) (hc : ¬ Q (G.1 b)) : tInst G P adm w b T ↔ T = w b := by
  constructor
  · rintro ⟨f, _, rfl⟩
    exact tup_c hw hq hs hb hc
  · rintro rfl
    exact tInst_self hq hw hs hb
theorem TSc_mono {a : Tf} (hq : tGQ G n P Q) (hw : tWF G n) (h : TSt G n ρ nv b a) (hc : ¬ Q (G.1 b)) : TSc G n P ρ nv b (fun _ v T => T = a v) := by
  refine ⟨h.1, fun adm w hs T => ?_, fun v v' hv adm T => by show T = a v ↔ T = a v'; rw [h.2.2 v v' hv]⟩
  rw [tInst_c hq hw hs h.1 hc, h.2.1 w (tSol_t hs)]
/-! a join does not touch what is general -/
theorem tBel_nQ (hw : tWF G n) (hq : tGQ G n P Q) (hx : x < n) (hy : y < n) (qx : ¬ Q (G.1 x)) (qy : ¬ Q (G.1 y)) (h : tBel G x y c) : ¬ Q (G.1 c) := by
  have key : ∀ p x z, x < n → ¬ Q (G.1 x) → tPl G p x = some z → ¬ Q z := by
    intro p
    induction p with
    | nil => intro x z hx hn e; cases e; exact hn
    | cons k p ih =>
      intro x z hx hn e
      obtain ⟨h1, h2⟩ := hw.1 x hx
      unfold tPl at e
      rcases hg : G.2 (G.1 x) with ⟨e1, o | ⟨lab, loose, kids⟩⟩
      · rw [hg] at e; cases e
      · rw [hg] at e
        have e : (match kids.find? (fun z => z.1 == k) with
          | some z => tPl G p z.2
          | none => none) = some z := e
        cases hf : kids.find? (fun z => z.1 == k) with
        | none => rw [hf] at e; cases e
        | some q =>
          rw [hf] at e
          have m := find_in hf
          exact ih q.2 z ((hw.2 _ h1 h2 _ _ _ _ hg).2 _ _ m) (hq.2.2.1 _ h1 h2 hn _ _ (by rw [hg]; exact m)) e
  obtain ⟨p, h | h⟩ := h
  · exact key p x _ hx qx h
  · exact key p y _ hy qy h
theorem JI_Q (hw0 : tWF G0 n0) (hx : x < n0) (hy : y < n0) (h : JI G0 n0 x y G n []) (hq : tGQ G0 n0 P Q) (qx : ¬ Q (G0.1 x)) (qy : ¬ Q (G0.1 y)) : tGQ G n P Q ∧ (∀ z, Q z → G.1 z = z ∧ G.2 z = G0.2 z) ∧ ∀ c, c < n0 → (Q (G.1 c) ↔ Q (G0.1 c)) := by
  have hb : ∀ c, tBel G0 x y c → ¬ Q (G0.1 c) := fun c => tBel_nQ hw0 hq hx hy qx qy
  obtain ⟨h1, -, -, -, ⟨h5, h51, h52⟩, h6, -, -, h9⟩ := h
  have hQ : ∀ z, Q z → G.1 z = z ∧ G.2 z = G0.2 z := by
    intro z hz
    obtain ⟨z1, z2⟩ := hq.1 z hz
    rcases h51 z z1 z2 with w | w
    · exact absurd (by rw [z2]; exact hz) (hb z w)
    · exact w
  have hc : ∀ c, c < n0 → (Q (G.1 c) ↔ Q (G0.1 c)) := by
    intro c hc
    have r0 := hw0.1 c hc
    constructor
    · intro hz
      obtain ⟨z1, z2⟩ := hq.1 _ hz
      by_cases e : tBel G0 x y c
      · exact absurd (by rw [z2]; exact hz) (hb _ (h6 c hc e z1))
      · rcases h51 _ r0.1 r0.2 with w | w
        · exfalso; apply e
          obtain ⟨p, w⟩ := w
          exact ⟨p, by rw [r0.2] at w; exact w⟩
        · rw [h9 c hc, w.1] at hz; exact hz
    · intro hz
      rw [h9 c hc, (hQ _ hz).1]; exact hz
  refine ⟨⟨fun z hz => ⟨by have := (hq.1 z hz).1; omega, (hQ z hz).1⟩, fun z hp => ?_, fun z hz hr hn l c m => ?_, fun z hz e lab kids => by rw [(hQ z hz).2]; exact hq.2.2.2 z hz e lab kids⟩, hQ, hc⟩
  · obtain ⟨q1, e, q2⟩ := hq.2.1 z hp
    exact ⟨q1, e, by rw [(hQ z q1).2]; exact q2⟩
  · rcases h52 z hz hr with ⟨q1, q2, q3⟩ | q
    · rw [q3] at m
      have k := hq.2.2.1 z q1 q2 hn l c m
      have hk : c < n0 := by
        rcases hg : G0.2 z with ⟨e, o | ⟨lab, loose, kids⟩⟩
        · rw [hg] at m; exact absurd m (List.not_mem_nil)
        · rw [hg] at m; exact (hw0.2 z q1 q2 _ _ _ _ hg).2 l c m
      exact fun w => k ((hc c hk).mp w)
    · rcases hg : G.2 z with ⟨e, o | ⟨lab, loose, kids⟩⟩
      · rw [hg] at m; exact absurd m (List.not_mem_nil)
      · rw [hg] at m
        obtain ⟨k1, k2⟩ := q e lab loose kids hg l c m
        exact fun w => hb c k2 ((hc c k1).mp w)
theorem JI_inst (hw0 : tWF G0 n0) (hx : x < n0) (hy : y < n0) (h : JI G0 n0 x y G n []) (hq : tGQ G0 n0 P Q) (qx : ¬ Q (G0.1 x)) (qy : ¬ Q (G0.1 y)) (hs : tSol adm G n w) (hc : c < n0) : tInst G P adm w c T ↔ tInst G0 P adm w c T := by
  obtain ⟨q1, q2, q3⟩ := JI_Q hw0 hx hy h hq qx qy
  have s0 := ((JI_nil h).1 adm w hs).1
  have h9 := h.2.2.2.2.2.2.2.2
  have hle := h.2.2.2.2.1.1
  have same : ∀ f p c, c < n0 → tW G (tup w P f) p c = tW G0 (tup w P f) p c := by
    intro f p
    induction p with
    | nil =>
      intro c hc
      by_cases e : Q (G0.1 c)
      · have hr := hw0.1 c hc
        obtain ⟨g1, g2⟩ := q2 _ e
        have e1 : G.1 c = G0.1 c := by rw [h9 c hc, g1]
        simp only [tW, e1, g2]
      · exact (congrFun (tup_c h.1 q1 hs (by omega) (fun z => e ((q3 c hc).mp z))) []).trans (congrFun (tup_c hw0 hq s0 hc e) []).symm
    | cons k p ih =>
      intro c hc
      by_cases e : Q (G0.1 c)
      · have hr := hw0.1 c hc
        obtain ⟨g1, g2⟩ := q2 _ e
        have e1 : G.1 c = G0.1 c := by rw [h9 c hc, g1]
        simp only [tW, e1, g2]
        have hk := hw0.2 _ hr.1 hr.2
        rcases hg : G0.2 (G0.1 c) with ⟨e0, o | ⟨lab, loose, kids⟩⟩
        · rfl
        · dsimp only
          cases hf : kids.find? (fun z => z.1 == k) with
          | none => rfl
          | some q => exact ih q.2 ((hk _ _ _ _ hg).2 _ _ (find_in hf))
      · exact (congrFun (tup_c h.1 q1 hs (by omega) (fun z => e ((q3 c hc).mp z))) (k :: p)).trans (congrFun (tup_c hw0 hq s0 hc e) (k :: p)).symm
  have ok : ∀ f, tokP adm G P f ↔ tokP adm G0 P f := by
    intro f
    unfold tokP
    refine forall_congr' fun z => forall_congr' fun hp => ?_
    rw [(q2 z (hq.2.1 z hp).1).2]
  unfold tInst
  refine exists_congr fun f => ?_
  rw [ok f, show tV G (tup w P f) c = tV G0 (tup w P f) c from funext fun p => same f p c hc]
theorem TSc_join (hw0 : tWF G0 n0) (hx : x < n0) (hy : y < n0) (h : JI G0 n0 x y G n []) (hq : tGQ G0 n0 P Q) (qx : ¬ Q (G0.1 x)) (qy : ¬ Q (G0.1 y)) (hI : TSc G0 n0 P ρ nv b I) : TSc G n P ρ nv b I := by
  refine ⟨by have := hI.1; have := h.2.2.2.2.1.1; omega, fun adm w hs T => ?_, hI.2.2⟩
  rw [hI.2.1 adm w ((JI_nil h).1 adm w hs).1, JI_inst hw0 hx hy h hq qx qy hs hI.1]
/-! a graph that grows -/
theorem tExt_W (hw : tWF G n) (h : tExt G n G' n') : ∀ p c, c < n → tW G' u p c = tW G u p c := by
  intro p
  induction p with
  | nil =>
    intro c hc
    have hr := hw.1 c hc
    simp only [tW, (h.2 c hc).1, (h.2 _ hr.1).2]
  | cons k p ih =>
    intro c hc
    have hr := hw.1 c hc
    simp only [tW, (h.2 c hc).1, (h.2 _ hr.1).2]
    have hk := hw.2 _ hr.1 hr.2
    rcases hg : G.2 (G.1 c) with ⟨e0, o | ⟨lab, loose, kids⟩⟩
    · rfl
    · dsimp only
      cases hf : kids.find? (fun z => z.1 == k) with
      | none => rfl
      | some q => exact ih q.2 ((hk _ _ _ _ hg).2 _ _ (find_in hf))
theorem tExt_sol (hw : tWF G n) (h : tExt G n G' n') (hs : tSol adm G' n' w) : tSol adm G n w := by
  obtain ⟨h1, h2⟩ := h
  refine ⟨fun z hz => ?_, fun z hz hr => ?_⟩
  · rw [← (h2 z hz).1]; exact hs.1 z (by omega)
  · rw [← (h2 z hz).2]; exact hs.2 z (by omega) (by rw [(h2 z hz).1]; exact hr)
theorem tExt_inst (hw : tWF G n) (hq : tGQ G n P Q) (h : tExt G n G' n') (hc : c < n) : tInst G' P adm w c T ↔ tInst G P adm w c T := by
  unfold tInst
  refine exists_congr fun f => ?_
  have ok : tokP adm G' P f ↔ tokP adm G P f := by
    unfold tokP
    refine forall_congr' fun z => forall_congr' fun hp => ?_
    rw [(h.2 z (hq.1 z (hq.2.1 z hp).1).1).2]
  rw [ok, show tV G' (tup w P f) c = tV G (tup w P f) c from funext fun p => tExt_W hw h p c hc]
theorem TSc_ext {ρ' : Nat → Nat} {nv' : Nat} (hw : tWF G n) (hq : tGQ G n P Q) (h : tExt G n G' n') (hv : nv ≤ nv') (hr : ∀ k, k < nv → ρ' k = ρ k) (hI : TSc G n P ρ nv b I) : TSc G' n' P ρ' nv' b I := by
  refine ⟨by have := hI.1; have := h.1; omega, fun adm w hs T => ?_, fun v v' hvv => hI.2.2 v v' (fun k hk => hvv k (by omega))⟩
  rw [tExt_inst hw hq h hI.1, ← hI.2.1 adm w (tExt_sol hw h hs) T]
  exact hI.2.2 _ _ (fun k hk => by show w (ρ' k) = w (ρ k); rw [hr k hk]) adm T
theorem TSt_ext {ρ' : Nat → Nat} {nv' : Nat} {a : Tf} (hw : tWF G n) (h : tExt G n G' n') (hv : nv ≤ nv') (hr : ∀ k, k < nv → ρ' k = ρ k) (ha : TSt G n ρ nv x a) : TSt G' n' ρ' nv' x a := by
  refine ⟨by have := ha.1; have := h.1; omega, fun w hs => ?_, fun v v' hvv => ha.2.2 v v' (fun k hk => hvv k (by omega))⟩
  rw [ha.2.1 w (tExt_sol hw h hs)]
  exact ha.2.2 _ _ (fun k hk => by show w (ρ k) = w (ρ' k); rw [hr k hk])
theorem tGQ_ext (hw : tWF G n) (hq : tGQ G n P Q) (h : tExt G n G' n') (hn : ∀ z, n ≤ z → z < n' → ∀ l c, (l, c) ∈ tkids (G'.2 z) → ¬ Q (G'.1 c)) : tGQ G' n' P Q := by
  refine ⟨fun z hz => ?_, fun z hp => ?_, fun z hz hr hnq l c m => ?_, fun z hz e lab kids => by rw [(h.2 z (hq.1 z hz).1).2]; exact hq.2.2.2 z hz e lab kids⟩
  · obtain ⟨q1, q2⟩ := hq.1 z hz
    exact ⟨by have := h.1; omega, by rw [(h.2 z q1).1]; exact q2⟩
  · obtain ⟨q1, e, q2⟩ := hq.2.1 z hp
    exact ⟨q1, e, by rw [(h.2 z (hq.1 z q1).1).2]; exact q2⟩
  · by_cases q : z < n
    · rw [(h.2 z q).1] at hr
      rw [(h.2 z q).2] at m
      have hk : c < n := by
        rcases hg : G.2 z with ⟨e, o | ⟨lab, loose, kids⟩⟩
        · rw [hg] at m; exact absurd m (List.not_mem_nil)
        · rw [hg] at m; exact (hw.2 z q hr _ _ _ _ hg).2 l c m
      rw [(h.2 c hk).1]
      exact hq.2.2.1 z q hr hnq l c m
    · exact hn z (by omega) hz l c m
end TGen
