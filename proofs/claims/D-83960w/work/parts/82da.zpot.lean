set_option maxRecDepth 100000
/-! HOW MANY PARTS THERE MAY BE: what joining open rows can add -/
/-- parts of open rows -/
noncomputable def tlo (G : TG) (z : Nat) : Int := match G.2 z with
  | (_, .inr (_, true, kids)) => @ite Int (G.1 z = z) (Classical.propDecidable _) (kids.length : Int) 0
  | _ => 0
noncomputable def tln (G : TG) (z : Nat) : Int := match G.2 z with
  | (_, .inr (_, true, _)) => @ite Int (G.1 z = z) (Classical.propDecidable _) 1 0
  | _ => 0
noncomputable def tK1 (G : TG) (n : Nat) : Int := isum (tlo G) n
noncomputable def tK2 (G : TG) (n : Nat) : Int := isum (fun z => tlo G z * tlo G z) n
noncomputable def tKN (G : TG) (n : Nat) : Int := isum (tln G) n
/-- how many parts there are, and may be by joining -/
noncomputable def zY (m : Int) (G : TG) (n : Nat) : Int := 80 * m + (tK1 G n * tK1 G n - tK2 G n) + 800 * tKN G n
section TPot
variable {G G' : TG} {n m x y z a b : Nat} {N : TN}
theorem tlo_nn : 0 ≤ tlo G z := by
  unfold tlo; split
  · split <;> omega
  · omega
theorem tln_nn : 0 ≤ tln G z := by
  unfold tln; split
  · split <;> omega
  · omega
theorem isum_sq {f : Nat → Int} (h : ∀ z, 0 ≤ f z) : isum (fun z => f z * f z) n ≤ isum f n * isum f n := by
  induction n with
  | zero => exact Int.le_refl _
  | succ n ih =>
    simp only [isum]
    have h1 := isum_nn (n := n) (d := f) (fun z _ => h z)
    have h2 := Int.mul_nonneg h1 (h n)
    rw [Int.mul_add, Int.add_mul, Int.add_mul]
    rw [Int.mul_comm (f n) (isum f n)]
    omega
theorem isum_two_eq {f g : Nat → Int} (hx : x < n) (hy : y < n) (hxy : x ≠ y) (h : ∀ z, z < n → z ≠ x → z ≠ y → g z = f z) : isum g n + f x + f y = isum f n + g x + g y := by
  have h1 := isum_two (n := n) (x := x) (y := y) (d := fun z => f z - g z) hx hy hxy (fun z hz zx zy => by rw [h z hz zx zy]; omega)
  have h2 := isum_two (n := n) (x := x) (y := y) (d := fun z => g z - f z) hx hy hxy (fun z hz zx zy => by rw [h z hz zx zy]; omega)
  rw [isum_sub] at h1 h2
  omega
theorem zY_67 : 80 * m ≤ zY m G n := by
  unfold zY
  have h1 := isum_sq (n := n) (f := tlo G) (fun z => tlo_nn)
  have h2 := isum_nn (n := n) (d := tln G) (fun z _ => tln_nn)
  unfold tK1 tK2 tKN; omega
theorem tlo_link (hz : z ≠ a) (hb : z ≠ b) (rb : G.1 b = b) : tlo (tlink G a b N) z = tlo G z ∧ tln (tlink G a b N) z = tln G z := by
  have e2 : (tlink G a b N).2 z = G.2 z := if_neg hb
  have e1 : (tlink G a b N).1 z = z ↔ G.1 z = z := by
    show (if G.1 z = a then b else G.1 z) = z ↔ _
    constructor
    · intro h; split at h
      · exact absurd h.symm hb
      · exact h
    · intro h; rw [h, if_neg hz]
  unfold tlo tln
  rw [e2]
  rcases G.2 z with ⟨e, o | ⟨lab, _ | _, kids⟩⟩
  · exact ⟨rfl, rfl⟩
  · exact ⟨rfl, rfl⟩
  · by_cases q : G.1 z = z
    · have q' := e1.mpr q
      refine ⟨?_, ?_⟩
      · simp only [q, q', if_true]
      · simp only [q, q', if_true]
    · have q' : ¬ (tlink G a b N).1 z = z := fun h => q (e1.mp h)
      refine ⟨?_, ?_⟩
      · simp only [q, q', if_false]
      · simp only [q, q', if_false]
theorem tlo_no (h : G.1 z ≠ z) : tlo G z = 0 ∧ tln G z = 0 := by
  unfold tlo tln
  rcases G.2 z with ⟨e, o | ⟨lab, _ | _, kids⟩⟩
  · exact ⟨rfl, rfl⟩
  · exact ⟨rfl, rfl⟩
  · exact ⟨if_neg h, if_neg h⟩
/-- joining two: a goes, b has k parts by now -/
theorem zY_link {m' : Int} (ha : a < n) (hb : b < n) (ra : G.1 a = a) (rb : G.1 b = b) (hab : a ≠ b) (h1 : tlo (tlink G a b N) b ≤ tlo G a + tlo G b) (h2 : tln (tlink G a b N) b ≤ tln G a + tln G b) (h3 : 40 * (m' - m) ≤ tlo G a * tlo G b + 400 * (tln G a + tln G b - tln (tlink G a b N) b)) : zY m' (tlink G a b N) n ≤ zY m G n := by
  have z1 : (tlink G a b N).1 a ≠ a := by
    show (if G.1 a = a then b else G.1 a) ≠ a
    rw [if_pos ra]; exact fun q => hab q.symm
  obtain ⟨za, zn⟩ := tlo_no z1
  have e1 := isum_two_eq (f := tlo G) (g := tlo (tlink G a b N)) ha hb hab (fun z hz zx zy => (tlo_link zx zy rb).1)
  have e2 := isum_two_eq (f := fun z => tlo G z * tlo G z) (g := fun z => tlo (tlink G a b N) z * tlo (tlink G a b N) z) ha hb hab (fun z hz zx zy => by rw [(tlo_link zx zy rb).1])
  have e3 := isum_two_eq (f := tln G) (g := tln (tlink G a b N)) ha hb hab (fun z hz zx zy => (tlo_link zx zy rb).2)
  have s0 : 0 ≤ isum (tlo G) n - tlo G a - tlo G b := by
    have := isum_two (n := n) (x := a) (y := b) (d := tlo G) ha hb hab (fun z _ _ _ => tlo_nn)
    omega
  have ka : 0 ≤ tlo G a := tlo_nn
  have kb : 0 ≤ tlo G b := tlo_nn
  have kc : 0 ≤ tlo (tlink G a b N) b := tlo_nn
  unfold zY tK1 tK2 tKN
  rw [za] at e1 e2
  rw [zn] at e3
  generalize isum (tlo (tlink G a b N)) n = I1 at e1 ⊢
  generalize isum (fun z => tlo (tlink G a b N) z * tlo (tlink G a b N) z) n = I2 at e2 ⊢
  generalize isum (tln (tlink G a b N)) n = I3 at e3 ⊢
  generalize isum (tlo G) n = J1 at e1 s0 ⊢
  generalize isum (fun z => tlo G z * tlo G z) n = J2 at e2 ⊢
  generalize isum (tln G) n = J3 at e3 ⊢
  generalize tlo (tlink G a b N) b = kk at *
  generalize tlo G a = p at *
  generalize tlo G b = q at *
  obtain ⟨s, rfl⟩ : ∃ s, J1 = s + p + q := ⟨J1 - p - q, by omega⟩
  have i1 : I1 = s + kk := by omega
  subst i1
  have hs : 0 ≤ s := by omega
  have m1 := Int.mul_nonneg hs (show 0 ≤ p + q - kk by omega)
  have x1 : (s + kk) * (s + kk) = s * s + 2 * (s * kk) + kk * kk := by grind
  have x2 : (s + p + q) * (s + p + q) = s * s + 2 * (s * p) + 2 * (s * q) + p * p + 2 * (p * q) + q * q := by grind
  have x3 : s * (p + q - kk) = s * p + s * q - s * kk := by grind
  rw [x1, x2]
  rw [x3] at m1
  simp only [Int.mul_zero, Int.zero_add, Int.add_zero] at e2
  omega
/-- b's node stays, a's is no open row -/
theorem zY_same (ha : a < n) (hb : b < n) (ra : G.1 a = a) (rb : G.1 b = b) (hab : a ≠ b) (hN : N.2 = (G.2 b).2) (h : ∀ lab kids, (G.2 a).2 ≠ .inr (lab, true, kids)) : zY m (tlink G a b N) n ≤ zY m G n := by
  have e2 : (tlink G a b N).2 b = N := if_pos rfl
  have e1 : (tlink G a b N).1 b = b := by
    show (if G.1 b = a then b else G.1 b) = b
    rw [rb, if_neg (fun q => hab q.symm)]
  have z0 : tlo G a = 0 ∧ tln G a = 0 := by
    unfold tlo tln
    rcases hg : G.2 a with ⟨e, o | ⟨lab, _ | _, kids⟩⟩
    · exact ⟨rfl, rfl⟩
    · exact ⟨rfl, rfl⟩
    · exact absurd (by rw [hg]) (h lab kids)
  have zb : tlo (tlink G a b N) b = tlo G b ∧ tln (tlink G a b N) b = tln G b := by
    unfold tlo tln
    rw [e2]
    obtain ⟨e, N2⟩ := N
    have hN : N2 = (G.2 b).2 := hN
    subst hN
    rcases hg : G.2 b with ⟨e', o | ⟨lab, _ | _, kids⟩⟩
    · exact ⟨rfl, rfl⟩
    · exact ⟨rfl, rfl⟩
    · rw [hg] at e1
      refine ⟨?_, ?_⟩
      · simp only [e1, rb, if_true]
      · simp only [e1, rb, if_true]
  refine zY_link ha hb ra rb hab (by omega) (by omega) ?_
  rw [z0.1, zb.2, z0.2]; omega
end TPot
