/-! TEXTS, on -/
set_option maxRecDepth 100000
noncomputable def wnumP (t : Int → Int) (T w lo hi p : Int) : Except (Int × Int) (Int × Int) :=
  match needP t T w p with
  | .error e => .error e
  | .ok p1 => numP t T lo hi p1
def wnumQ (t : Int → Int) (T w lo hi e k q v w0 b bp e' k' q' v' w' b' bp' r : Int) : Prop := ((0 ≤ e' ∧ e' ≤ T) ∧ (lo ≤ hi → lo ≤ r ∧ r ≤ hi)) ∧ (b ≠ 0 → b' = b ∧ bp' = bp) ∧ ∀ p, b = 0 → TKP t T p e k q v w0 → (∀ x, wnumP t T w lo hi p = .ok x → (b' = 0 ∧ r = x.1) ∧ TKP t T x.2 e' k' q' v' w') ∧ (∀ x, wnumP t T w lo hi p = .error x → b' = x.1 ∧ bp' = x.2)
theorem needP_e {t : Int → Int} {T w p : Int} {x : Int × Int} (h : needP t T w p = .error x) : x.1 ≠ 0 := by
  unfold needP at h
  split at h
  · cases h
  · cases h; show (1 : Int) ≠ 0; omega
theorem wnumQ_of {t : Int → Int} {T w lo hi e k q v w0 b bp e1 k1 q1 v1 w1 b1 bp1 e2 k2 q2 v2 w2 b2 bp2 r : Int} (h : needQ t T w e k q v w0 b bp e1 k1 q1 v1 w1 b1 bp1) (g : numQ t T lo hi e1 k1 q1 v1 w1 b1 bp1 e2 k2 q2 v2 w2 b2 bp2 r) : wnumQ t T w lo hi e k q v w0 b bp e2 k2 q2 v2 w2 b2 bp2 r := by
  refine ⟨g.1, fun hb => ?_, fun p hb ht => ?_⟩
  · have := h.2.1 hb
    have := g.2.1 (by omega)
    exact ⟨by omega, by omega⟩
  · have a := h.2.2 p hb ht
    unfold wnumP
    cases hn : needP t T w p with
    | error x =>
      have a := a.2 x hn
      have hx := needP_e hn
      have g1 := g.2.1 (by omega)
      refine ⟨fun y hy => (by cases hy), fun y hy => ?_⟩
      cases hy
      exact ⟨by omega, by omega⟩
    | ok p1 =>
      have a := a.1 p1 hn
      exact g.2.2 p1 a.1 a.2
