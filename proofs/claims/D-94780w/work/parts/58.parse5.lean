/-! TEXTS: the first line, the others -/
set_option maxRecDepth 100000
theorem wnumP_eq (t : Int → Int) (T w lo hi p : Int) : wnumP t T w lo hi p = match needP t T w p with
  | .error e => .error e
  | .ok p1 => numP t T lo hi p1 := rfl
/-- what a line makes of the reading: P what it means -/
def lnQ (t : Int → Int) (T : Int) (P : Int → Except (Int × Int) ((Nat → Int → Int) × Int)) (e k q v w0 e' k' q' v' w' b' bp' : Int) (S : Nat → Int → Int) : Prop := (0 ≤ e' ∧ e' ≤ T) ∧ ∀ p, TKP t T p e k q v w0 →
  (∀ x, P p = .ok x → (b' = 0 ∧ S = x.1) ∧ TKP t T x.2 e' k' q' v' w') ∧ (∀ x, P p = .error x → b' = x.1 ∧ bp' = x.2)
theorem firstQ_of {t : Int → Int} {T e k q v w0 bp e1 k1 q1 v1 w1 b1 bp1 e2 k2 q2 v2 w2 b2 bp2 e3 k3 q3 v3 w3 b3 bp3 b4 bp4 e5 k5 q5 v5 w5 b5 bp5 r1 r2 : Int} {R S : Nat → Int → Int}
    (h1 : needQ t T 10650290 e k q v w0 0 bp e1 k1 q1 v1 w1 b1 bp1) (h2 : wnumQ t T 40613 2 16 e1 k1 q1 v1 w1 b1 bp1 e2 k2 q2 v2 w2 b2 bp2 r1) (h3 : needQ t T 247516 e2 k2 q2 v2 w2 b2 bp2 e3 k3 q3 v3 w3 b3 bp3)
    (h4 : ((b3 = 0 ∧ k3 = 2 ∧ (1 ≤ v3 ∧ v3 ≤ 8) ∧ 10000 < pwN r1 v3.toNat) ∧ b4 = 2 ∧ bp4 = q3) ∨ (¬ (b3 = 0 ∧ k3 = 2 ∧ (1 ≤ v3 ∧ v3 ≤ 8) ∧ 10000 < pwN r1 v3.toNat) ∧ b4 = b3 ∧ bp4 = bp3))
    (h5 : numQ t T 1 8 e3 k3 q3 v3 w3 b4 bp4 e5 k5 q5 v5 w5 b5 bp5 r2) (hS : S = rU (rU (rU R 0 0 r1) 0 1 r2) 0 2 (pwN r1 r2.toNat)) : lnQ t T (firstP t T R) e k q v w0 e5 k5 q5 v5 w5 b5 bp5 S := by
  refine ⟨h5.1.1, fun p ht => ?_⟩
  -- what is bad stays so
  have bad : ∀ x : Int × Int, x.1 ≠ 0 → (b3 = x.1 ∧ bp3 = x.2) → b5 = x.1 ∧ bp5 = x.2 := fun x hx hb => by
    have h4b : b4 = b3 ∧ bp4 = bp3 := by
      rcases h4 with h4 | h4
      · omega
      · exact h4.2
    have := h5.2.1 (by omega)
    omega
  have bad2 : ∀ x : Int × Int, x.1 ≠ 0 → (b2 = x.1 ∧ bp2 = x.2) → b5 = x.1 ∧ bp5 = x.2 := fun x hx hb => by
    have := h3.2.1 (by omega)
    exact bad x hx (by omega)
  have bad1 : ∀ x : Int × Int, x.1 ≠ 0 → (b1 = x.1 ∧ bp1 = x.2) → b5 = x.1 ∧ bp5 = x.2 := fun x hx hb => by
    have := h2.2.1 (by omega)
    exact bad2 x hx (by omega)
  have a1 := h1.2.2 p rfl ht
  unfold firstP
  cases n1 : needP t T 10650290 p with
  | error x =>
    refine ⟨fun y hy => (by cases hy), fun y hy => ?_⟩
    cases hy; exact bad1 x (needP_e n1) (a1.2 x n1)
  | ok p1 =>
    have a1 := a1.1 p1 n1
    have a2 := h2.2.2 p1 a1.1 a1.2
    rw [wnumP_eq] at a2
    dsimp only
    cases n2 : needP t T 40613 p1 with
    | error x =>
      rw [n2] at a2
      refine ⟨fun y hy => (by cases hy), fun y hy => ?_⟩
      cases hy; exact bad2 x (needP_e n2) (a2.2 x rfl)
    | ok p2 =>
      rw [n2] at a2
      dsimp only at a2 ⊢
      cases n3 : numP t T 2 16 p2 with
      | error x =>
        refine ⟨fun y hy => (by cases hy), fun y hy => ?_⟩
        cases hy; exact bad2 x (numP_e n3) (a2.2 x n3)
      | ok x3 =>
        have a2 := a2.1 x3 n3
        have a3 := h3.2.2 x3.2 a2.1.1 a2.2
        dsimp only
        cases n4 : needP t T 247516 x3.2 with
        | error x =>
          refine ⟨fun y hy => (by cases hy), fun y hy => ?_⟩
          cases hy; exact bad x (needP_e n4) (a3.2 x n4)
        | ok p4 =>
          have a3 := a3.1 p4 n4
          have ht4 := a3.2
          dsimp only
          rw [← a2.1.2, ← ht4.2.2.1, ← ht4.2.2.2.2.1, ← ht4.2.2.2.1]
          rcases h4 with h4 | h4
          · rw [if_pos h4.1.2]
            refine ⟨fun y hy => (by cases hy), fun y hy => ?_⟩
            cases hy
            have := h5.2.1 (by omega)
            exact ⟨by omega, by omega⟩
          · rw [if_neg (fun g => h4.1 ⟨a3.1, g⟩)]
            have a5 := h5.2.2 p4 (by omega) ht4
            cases n5 : numP t T 1 8 p4 with
            | error x =>
              refine ⟨fun y hy => (by cases hy), fun y hy => ?_⟩
              cases hy; exact a5.2 x n5
            | ok x5 =>
              have a5 := a5.1 x5 n5
              refine ⟨fun y hy => ?_, fun y hy => by cases hy⟩
              cases hy
              exact ⟨⟨a5.1.1, by rw [hS, a5.1.2]⟩, a5.2⟩
