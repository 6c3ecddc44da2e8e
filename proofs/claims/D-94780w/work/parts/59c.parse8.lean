/-! TEXTS: the whole -/
set_option maxRecDepth 100000
theorem doP_e {t : Int → Int} {T : Int} : ∀ (n : Nat) (R : Nat → Int → Int) (p : Int) (x : Int × Int), doP t T n R p = .error x → x.1 ≠ 0 := by
  intro n
  induction n with
  | zero =>
    intro R p x h
    have e : doP t T 0 R p = .ok (R, p) := rfl
    rw [e] at h; cases h
  | succ n ih =>
    intro R p x h
    by_cases c : R 0 3 = 12 ∧ sortAt t T p ≠ -1
    · have e : doP t T (n + 1) R p = .error (3, plc t T p) := if_pos c
      rw [e] at h; cases h; show (3 : Int) ≠ 0; decide
    · have en : doP t T (n + 1) R p = match wordP t T (R 0 0) p with
        | .error e => .error e
        | .ok (s, v, q) => if knd t T q = 1 then doP t T n (rU (rU (rU R 1 (2 * R 0 3) s) 1 (2 * R 0 3 + 1) v) 0 3 (R 0 3 + 1)) q else .ok (rU (rU (rU R 1 (2 * R 0 3) s) 1 (2 * R 0 3 + 1) v) 0 3 (R 0 3 + 1), q) := if_neg c
      rw [en] at h
      cases hw : wordP t T (R 0 0) p with
      | error y => rw [hw] at h; cases h; exact wordP_e hw
      | ok y =>
        obtain ⟨s, v, q⟩ := y
        rw [hw] at h
        dsimp only at h
        by_cases k : knd t T q = 1
        · rw [if_pos k] at h; exact ih _ _ _ h
        · rw [if_neg k] at h; cases h
theorem firstP_e {t : Int → Int} {T p : Int} {R : Nat → Int → Int} {x : Int × Int} (h : firstP t T R p = .error x) : x.1 ≠ 0 := by
  unfold firstP at h
  cases n1 : needP t T 10650290 p with
  | error y => rw [n1] at h; cases h; exact needP_e n1
  | ok p1 =>
    rw [n1] at h; dsimp only at h
    cases n2 : needP t T 40613 p1 with
    | error y => rw [n2] at h; cases h; exact needP_e n2
    | ok p2 =>
      rw [n2] at h; dsimp only at h
      cases n3 : numP t T 2 16 p2 with
      | error y => rw [n3] at h; cases h; exact numP_e n3
      | ok y =>
        rw [n3] at h; dsimp only at h
        cases n4 : needP t T 247516 y.2 with
        | error z => rw [n4] at h; cases h; exact needP_e n4
        | ok p4 =>
          rw [n4] at h; dsimp only at h
          split at h
          · cases h; show (2 : Int) ≠ 0; decide
          · cases n5 : numP t T 1 8 p4 with
            | error z => rw [n5] at h; cases h; exact numP_e n5
            | ok z => rw [n5] at h; cases h
theorem lineP_e {t : Int → Int} {T p : Int} {R : Nat → Int → Int} {x : Int × Int} (h : lineP t T R p = .error x) : x.1 ≠ 0 := by
  unfold lineP at h
  split at h
  · split at h
    · cases h; show (2 : Int) ≠ 0; decide
    · exact doP_e _ _ _ _ h
  · split at h
    · split at h
      · cases h; show (3 : Int) ≠ 0; decide
      · unfold slipP at h
        cases n1 : wordP t T (R 0 0) (enx t T p) with
        | error y => rw [n1] at h; cases h; exact wordP_e n1
        | ok y =>
          rw [n1] at h; dsimp only at h
          cases n2 : needP t T 4797 y.2.2 with
          | error z => rw [n2] at h; cases h; exact needP_e n2
          | ok q1 =>
            rw [n2] at h; dsimp only at h
            cases n3 : wordP t T (R 0 0) q1 with
            | error z => rw [n3] at h; cases h; exact wordP_e n3
            | ok z => rw [n3] at h; cases h
    · split at h
      · split at h
        · cases h; show (3 : Int) ≠ 0; decide
        · cases n1 : numP t T 0 (R 0 2 - 1) (enx t T p) with
          | error z => rw [n1] at h; cases h; exact numP_e n1
          | ok z => rw [n1] at h; cases h
      · cases h; show (1 : Int) ≠ 0; decide
/-- a text under way: F what it means -/
def TI (t : Int → Int) (T : Int) (F : Except (Int × Int) ((Nat → Int → Int) × Int)) (S : Nat → Int → Int) (ln e k q v w b bp : Int) : Prop :=
  (b = 0 → ∃ p n, TKP t T p e k q v w ∧ textP t T n S ln p = F ∧ T - p < (n : Int) ∧ (0 ≤ ln ∧ ln ≤ p) ∧ GR ln S) ∧ (b ≠ 0 → F = .error (b, bp))
theorem TI_end {t : Int → Int} {T ln e k q v w b bp : Int} {F : Except (Int × Int) ((Nat → Int → Int) × Int)} {S : Nat → Int → Int} (h : TI t T F S ln e k q v w b bp) (hb : b = 0) (hk : k = 0) : F = .ok (S, ln) ∧ GR ln S ∧ 0 ≤ ln ∧ ln ≤ T := by
  obtain ⟨p, n, ht, hf, hn, hl, hg⟩ := h.1 hb
  have h1 := ht.1
  obtain ⟨n, rfl⟩ : ∃ m, n = m + 1 := ⟨n - 1, by omega⟩
  have en : textP t T (n + 1) S ln p = .ok (S, ln) := if_pos (by rw [← ht.2.2.1]; exact hk)
  exact ⟨by rw [← hf, en], hg, hl.1, by omega⟩
theorem TI_bad {t : Int → Int} {T ln ln' e k q v w b bp e1 k1 q1 v1 w1 b1 bp1 : Int} {F : Except (Int × Int) ((Nat → Int → Int) × Int)} {S S' S1 : Nat → Int → Int} (h : TI t T F S ln e k q v w b bp) (hb : b = 0) (hk : k ≠ 0)
    (g : lnQ t T (fun p => if ln = 0 then firstP t T S p else lineP t T S p) e k q v w e1 k1 q1 v1 w1 b1 bp1 S1) (h1 : b1 ≠ 0) : TI t T F S' ln' e1 k1 q1 v1 w1 b1 bp1 := by
  refine ⟨fun z => absurd z h1, fun _ => ?_⟩
  obtain ⟨p, n, ht, hf, hn, hl, hg⟩ := h.1 hb
  have h1 := ht.1
  obtain ⟨n, rfl⟩ : ∃ m, n = m + 1 := ⟨n - 1, by omega⟩
  have hk' : ¬ knd t T p = 0 := by rw [← ht.2.2.1]; exact hk
  have en : textP t T (n + 1) S ln p = match (if ln = 0 then firstP t T S p else lineP t T S p) with
    | .error e => .error e
    | .ok (R', p') => match stopP t T p' with
      | .error e => .error e
      | .ok q => textP t T n R' (ln + 1) q := if_neg hk'
  have g2 := g.2 p ht
  dsimp only at g2
  rw [← hf, en]
  generalize (if ln = 0 then firstP t T S p else lineP t T S p) = Q at g2
  cases Q with
  | error x => have a := g2.2 x rfl; dsimp only; rw [a.1, a.2]
  | ok x => exact absurd (g2.1 x rfl).1.1 (by assumption)
theorem stopP_ok {t : Int → Int} {T p p' : Int} (h : stopP t T p = .ok p') : knd t T p = 3 ∧ p' = enx t T p := by
  by_cases a : knd t T p = 3
  · have e : stopP t T p = .ok (enx t T p) := if_pos a
    rw [e] at h; cases h; exact ⟨a, rfl⟩
  · have e : stopP t T p = .error (1, plc t T p) := if_neg a
    rw [e] at h; cases h
theorem TI_go {t : Int → Int} {T ln ln' e k q v w b bp e1 k1 q1 v1 w1 b1 bp1 e2 k2 q2 v2 w2 b2 bp2 : Int} {F : Except (Int × Int) ((Nat → Int → Int) × Int)} {S S1 : Nat → Int → Int} (h : TI t T F S ln e k q v w b bp) (hb : b = 0) (hk : k ≠ 0)
    (g : lnQ t T (fun p => if ln = 0 then firstP t T S p else lineP t T S p) e k q v w e1 k1 q1 v1 w1 b1 bp1 S1) (h1 : b1 = 0) (g2 : stopQ t T e1 k1 q1 v1 w1 b1 bp1 e2 k2 q2 v2 w2 b2 bp2) (hl' : ln' = ln + 1) : TI t T F S1 ln' e2 k2 q2 v2 w2 b2 bp2 := by
  subst hl'
  obtain ⟨p, n, ht, hf, hn, hl, hg⟩ := h.1 hb
  have hp := ht.1
  obtain ⟨n, rfl⟩ : ∃ m, n = m + 1 := ⟨n - 1, by omega⟩
  have hk' : ¬ knd t T p = 0 := by rw [← ht.2.2.1]; exact hk
  have en : textP t T (n + 1) S ln p = match (if ln = 0 then firstP t T S p else lineP t T S p) with
    | .error e => .error e
    | .ok (R', p') => match stopP t T p' with
      | .error e => .error e
      | .ok q => textP t T n R' (ln + 1) q := if_neg hk'
  have gg := g.2 p ht
  dsimp only at gg
  have hok : ∀ x, (if ln = 0 then firstP t T S p else lineP t T S p) = .ok x → gR x.1 ∧ p ≤ x.2 ∧ x.2 ≤ T := fun x hx => by
    by_cases z : ln = 0
    · rw [if_pos z] at hx; exact firstP_ok hx hp.2 (by rw [← z]; exact hg)
    · rw [if_neg z] at hx; exact lineP_ok hx hp.2 (hg.2 z)
  have he : ∀ x, (if ln = 0 then firstP t T S p else lineP t T S p) = .error x → x.1 ≠ 0 := fun x hx => by
    by_cases z : ln = 0
    · rw [if_pos z] at hx; exact firstP_e hx
    · rw [if_neg z] at hx; exact lineP_e hx
  generalize (if ln = 0 then firstP t T S p else lineP t T S p) = Q at gg en hok he
  cases Q with
  | error x => have a := gg.2 x rfl; exact absurd (a.1.symm.trans h1) (he x rfl)
  | ok x =>
    have a := gg.1 x rfl
    have c := hok x rfl
    have s2 := g2.2.2 x.2 h1 a.2
    dsimp only at en
    rw [en] at hf
    cases n1 : stopP t T x.2 with
    | error y =>
      rw [n1] at hf
      have d := s2.2 y n1
      have y1 : y.1 ≠ 0 := by
        intro z
        by_cases a3 : knd t T x.2 = 3
        · have e : stopP t T x.2 = .ok (enx t T x.2) := if_pos a3
          rw [e] at n1; cases n1
        · have e : stopP t T x.2 = .error (1, plc t T x.2) := if_neg a3
          rw [e] at n1; cases n1; change (1 : Int) = 0 at z; exact absurd z (by decide)
      refine ⟨fun z => absurd (d.1.symm.trans z) y1, fun _ => ?_⟩
      rw [← hf]; dsimp only; rw [d.1, d.2]
    | ok p2 =>
      rw [n1] at hf
      dsimp only at hf
      have d := s2.1 p2 n1
      have d3 := stopP_ok n1
      have bx := enx_b (t := t) c.2.2
      have b3 := bx.2.2 (by rw [d3.1]; decide)
      refine ⟨fun _ => ⟨p2, n, d.2, ?_, ?_, ⟨by omega, by omega⟩, fun z => by omega, fun _ => ?_⟩, fun z => absurd d.1 z⟩
      · rw [a.1.2]; exact hf
      · omega
      · rw [a.1.2]; exact c.1
theorem lnQ_eq {t : Int → Int} {T e k q v w0 e' k' q' v' w' b' bp' : Int} {P P' : Int → Except (Int × Int) ((Nat → Int → Int) × Int)} {S : Nat → Int → Int} (g : lnQ t T P e k q v w0 e' k' q' v' w' b' bp' S) (h : ∀ p, P' p = P p) : lnQ t T P' e k q v w0 e' k' q' v' w' b' bp' S := by
  have e : P' = P := funext h
  rw [e]; exact g
theorem TI_begin {t : Int → Int} {T bp : Int} {S : Nat → Int → Int} (hT : 0 ≤ T) (h8 : T ≤ 800) (hS : GR 0 S) : TI t T (textP t T 801 S 0 0) S 0 (enx t T 0) (knd t T 0) (plc t T 0) (vlu t T 0) (wrd t T 0) 0 bp :=
  ⟨fun _ => ⟨0, 801, ⟨⟨by decide, hT⟩, rfl, rfl, rfl, rfl, rfl⟩, rfl, by omega, ⟨by decide, by decide⟩, hS⟩, fun h => absurd rfl h⟩
/-- what reading a tape makes of the tables: R what lay there, h a sl td ln before -/
def tabQ (F : Except (Int × Int) ((Nat → Int → Int) × Int)) (ln h a sl td ln' h' a' sl' td' : Int → Int) (r b bp : Int) : Prop :=
  ((∀ z, 1 ≤ z → z < 4 → ln' z = ln z) ∧ (∀ z, 6 ≤ z → z < 24 → h' z = h z) ∧ (∀ z, 24 ≤ z → z < 96 → a' z = a z) ∧ (∀ z, 24 ≤ z → z < 96 → sl' z = sl z) ∧ (∀ z, 20 ≤ z → z < 80 → td' z = td z)) ∧
  (∀ x, F = .error x → (r = -4 ∧ b = x.1 ∧ bp = x.2 ∧ x.1 ≠ 0) ∧ ln' 0 = ln 0 ∧ (∀ z, 0 ≤ z → z < 6 → h' z = h z) ∧ (∀ z, 0 ≤ z → z < 24 → a' z = a z ∧ sl' z = sl z) ∧ (∀ z, 0 ≤ z → z < 20 → td' z = td z)) ∧
  (∀ x, F = .ok x → (r = x.2 ∧ b = 0 ∧ bp = -1) ∧ (ln' 0 = x.2 ∧ GR x.2 x.1 ∧ 0 ≤ x.2 ∧ x.2 ≤ 800) ∧ (∀ z, 0 ≤ z → z < 6 → h' z = x.1 0 z) ∧ (∀ z, 0 ≤ z → z < 24 → a' z = x.1 1 z ∧ sl' z = x.1 2 z) ∧ (∀ z, 0 ≤ z → z < 20 → td' z = x.1 3 z))
theorem bI_or {x : Int} {p : Prop} [Decidable p] (h : x = bI p) : (x = 1 ∧ p) ∨ (x = 0 ∧ ¬ p) := by
  by_cases c : p
  · exact Or.inl ⟨h.trans (bI_t c), c⟩
  · exact Or.inr ⟨h.trans (bI_f c), c⟩
theorem TI_b {t : Int → Int} {T ln e k q v w b bp : Int} {F : Except (Int × Int) ((Nat → Int → Int) × Int)} {S : Nat → Int → Int} (h : TI t T F S ln e k q v w b bp) (hb : b = 0) : (0 ≤ ln ∧ ln ≤ T) ∧ GR ln S := by
  obtain ⟨p, n, ht, hf, hn, hl, hg⟩ := h.1 hb
  have h1 := ht.1
  exact ⟨⟨hl.1, by omega⟩, hg⟩
theorem GR_0 {h a sl td : Int → Int} : GR 0 (rep (fillC h 24 6 0) a sl td 0) := by
  have e : ∀ i : Int, 0 ≤ i → i < 6 → rep (fillC h 24 6 0) a sl td 0 0 i = 0 := fun i a b => by
    show fillC h 24 6 0 (24 + i) = 0
    exact if_pos ⟨by omega, by omega⟩
  exact ⟨fun _ => ⟨⟨e 0 (by decide) (by decide), e 1 (by decide) (by decide), e 2 (by decide) (by decide), e 3 (by decide) (by decide), e 4 (by decide) (by decide), e 5 (by decide) (by decide)⟩, rfl⟩, fun h => absurd rfl h⟩
theorem tab_err {F : Except (Int × Int) ((Nat → Int → Int) × Int)} {ln h a sl td f5 f6 f7 f8 f9 : Int → Int} {b bp : Int} (hF : F = .error (b, bp)) (hb : b ≠ 0) (h5 : ∀ z, z ≠ 4 → f5 z = ln z) (h6 : ∀ z, z < 24 → f6 z = h z) (h7 : ∀ z, z < 96 → f7 z = a z) (h8 : ∀ z, z < 96 → f8 z = sl z) (h9 : ∀ z, z < 80 → f9 z = td z) :
    tabQ F ln h a sl td f5 f6 f7 f8 f9 (-4) b (if b = 0 then -1 else bp) := by
  refine ⟨⟨fun z _ _ => h5 z (by omega), fun z _ _ => h6 z (by omega), fun z _ _ => h7 z (by omega), fun z _ _ => h8 z (by omega), fun z _ _ => h9 z (by omega)⟩, fun x hx => ?_, fun x hx => by rw [hF] at hx; cases hx⟩
  rw [hF] at hx
  cases hx
  exact ⟨⟨rfl, rfl, if_neg hb, hb⟩, h5 0 (by decide), fun z _ _ => h6 z (by omega), fun z _ _ => ⟨h7 z (by omega), h8 z (by omega)⟩, fun z _ _ => h9 z (by omega)⟩
theorem cpT_in {m : Int} {f : Int → Int} {z : Int} (h0 : 0 ≤ z) (h1 : z < m) : cpT m 4 0 f z = f (m * 4 + z) := by
  unfold cpT moveC
  rw [if_pos (by omega)]
  congr 1
  omega
theorem cpT_out {m : Int} {f : Int → Int} {z : Int} (h1 : m ≤ z) : cpT m 4 0 f z = f z := by
  unfold cpT moveC
  rw [if_neg (by omega)]
theorem tab_ok {F : Except (Int × Int) ((Nat → Int → Int) × Int)} {ln h a sl td f5 f6 f7 f8 f9 : Int → Int} {b bp d L : Int} (hF : F = .ok (rep f6 f7 f8 f9 d, L) ∧ GR L (rep f6 f7 f8 f9 d) ∧ 0 ≤ L ∧ L ≤ 800) (hL : L = f5 4) (hb : b = 0) (h5 : ∀ z, z ≠ 4 → f5 z = ln z) (h6 : ∀ z, z < 24 → f6 z = h z) (h7 : ∀ z, z < 96 → f7 z = a z) (h8 : ∀ z, z < 96 → f8 z = sl z) (h9 : ∀ z, z < 80 → f9 z = td z) :
    tabQ F ln h a sl td (cpT 1 4 0 f5) (cpT 6 4 0 f6) (cpT 24 4 0 f7) (cpT 24 4 0 f8) (cpT 20 4 0 f9) (cpT 1 4 0 f5 0) b (if b = 0 then -1 else bp) := by
  obtain ⟨hF, hG, hl⟩ := hF
  have e0 : cpT 1 4 0 f5 0 = L := by rw [cpT_in (by decide) (by decide), hL]; rfl
  refine ⟨⟨fun z _ _ => by rw [cpT_out (by omega)]; exact h5 z (by omega), fun z _ _ => by rw [cpT_out (by omega)]; exact h6 z (by omega), fun z _ _ => by rw [cpT_out (by omega)]; exact h7 z (by omega), fun z _ _ => by rw [cpT_out (by omega)]; exact h8 z (by omega), fun z _ _ => by rw [cpT_out (by omega)]; exact h9 z (by omega)⟩, fun x hx => (by rw [hF] at hx; cases hx), fun x hx => ?_⟩
  rw [hF] at hx
  cases hx
  refine ⟨⟨e0, hb, if_pos hb⟩, ⟨e0, hG, hl⟩, fun z z0 z1 => ?_, fun z z0 z1 => ⟨?_, ?_⟩, fun z z0 z1 => ?_⟩
  · rw [cpT_in z0 z1]; rfl
  · rw [cpT_in z0 z1]; rfl
  · rw [cpT_in z0 z1]; rfl
  · rw [cpT_in z0 z1]; rfl
theorem TI_end4 {t : Int → Int} {T ln e k q v w b bp : Int} {F : Except (Int × Int) ((Nat → Int → Int) × Int)} {S : Nat → Int → Int} (h : TI t T F S ln e k q v w b bp) (hb : b = 0) (hk : k = 0) (h8 : T ≤ 800) : F = .ok (S, ln) ∧ GR ln S ∧ 0 ≤ ln ∧ ln ≤ 800 := by
  have := TI_end h hb hk
  exact ⟨this.1, this.2.1, this.2.2.1, by omega⟩
