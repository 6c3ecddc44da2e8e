/-! TEXTS: a line -/
set_option maxRecDepth 100000
theorem lnQ_err {t : Int → Int} {T e k q v w0 b' bp' : Int} {P : Int → Except (Int × Int) ((Nat → Int → Int) × Int)} {S : Nat → Int → Int} (h0 : 0 ≤ e ∧ e ≤ T) (h : ∀ p, TKP t T p e k q v w0 → P p = .error (b', plc t T p)) (hq : bp' = q) : lnQ t T P e k q v w0 e k q v w0 b' bp' S := by
  refine ⟨h0, fun p ht => ?_⟩
  rw [h p ht]
  refine ⟨fun x hx => (by cases hx), fun x hx => ?_⟩
  cases hx
  exact ⟨rfl, hq.trans ht.2.2.2.1⟩
theorem lnQ_do {t : Int → Int} {T e k q v w0 bp e' k' q' v' w' b' bp' : Int} {R S : Nat → Int → Int} (g : doQ t T R e k q v w0 0 bp e' k' q' v' w' b' bp' S) (hk : k = 1) (hw : w0 = 2427955) : lnQ t T (lineP t T R) e k q v w0 e' k' q' v' w' b' bp' S := by
  refine ⟨g.1, fun p ht => ?_⟩
  have g2 := g.2.2 p rfl ht
  have en : lineP t T R p = if R 4 0 ≠ 0 then .error (2, plc t T p) else doP t T 13 (rU R 4 0 1) (enx t T p) := if_pos ⟨by rw [← ht.2.2.1]; exact hk, by rw [← ht.2.2.2.2.2]; exact hw⟩
  by_cases h : R 4 0 = 0
  · rw [en, if_neg (fun q => q h)]; exact g2.2 h
  · rw [en, if_pos h]
    refine ⟨fun x hx => (by cases hx), fun x hx => ?_⟩
    cases hx; exact g2.1 h
/-- what is wrong with a line that is no doing -/
def lnC (k w n m b : Int) : Prop := (b = 1 ∧ ¬ (k = 1 ∧ w = 382984) ∧ ¬ (k = 1 ∧ w = 212302449)) ∨ (b = 3 ∧ (k = 1 ∧ w = 382984) ∧ n = 6) ∨ (b = 3 ∧ (k = 1 ∧ w = 212302449) ∧ m = 20)
theorem lnQ_bad {t : Int → Int} {T e k q v w0 b' bp' : Int} {R S : Nat → Int → Int} (h0 : 0 ≤ e ∧ e ≤ T) (hd : ¬ (k = 1 ∧ w0 = 2427955)) (hc : lnC k w0 (R 0 4) (R 0 5) b') (hq : bp' = q) : lnQ t T (lineP t T R) e k q v w0 e k q v w0 b' bp' S := by
  refine lnQ_err h0 (fun p ht => ?_) hq
  unfold lineP
  rw [← ht.2.2.1, ← ht.2.2.2.2.2, if_neg hd]
  rcases hc with hc | hc | hc
  · rw [if_neg hc.2.1, if_neg hc.2.2, hc.1]
  · rw [if_pos hc.2.1, if_pos hc.2.2, hc.1]
  · rw [if_neg (fun h => absurd (h.2.symm.trans hc.2.1.2) (by decide)), if_pos hc.2.1, if_pos hc.2.2, hc.1]
theorem lineP_s {t : Int → Int} {T e k q v w0 p : Int} {R : Nat → Int → Int} (hd : k = 1 ∧ w0 = 382984) (hn : R 0 4 ≠ 6) (ht : TKP t T p e k q v w0) : lineP t T R p = slipP t T R (enx t T p) := by
  unfold lineP
  rw [← ht.2.2.1, ← ht.2.2.2.2.2, if_neg (fun h => absurd (h.2.symm.trans hd.2) (by decide)), if_pos hd, if_neg hn]
theorem lnQ_s1 {t : Int → Int} {T e k q v w0 bp e1 k1 q1 v1 w1 b1 bp1 i : Int} {f f1 : Int → Int} {R S : Nat → Int → Int} (hd : k = 1 ∧ w0 = 382984) (hn : R 0 4 ≠ 6)
    (g1 : wordQ t T (R 0 0) (enx t T e) (knd t T e) (plc t T e) (vlu t T e) (wrd t T e) 0 bp f e1 k1 q1 v1 w1 b1 bp1 f1 i) (hb : b1 ≠ 0) : lnQ t T (lineP t T R) e k q v w0 e1 k1 q1 v1 w1 b1 bp1 S := by
  refine ⟨g1.1.1, fun p ht => ?_⟩
  rw [lineP_s hd hn ht]
  have a1 := g1.2.2.2 (enx t T p) rfl (by rw [ht.2.1]; exact TKP_next ht.1.1 ht.1.2)
  unfold slipP
  cases n1 : wordP t T (R 0 0) (enx t T p) with
  | error x =>
    refine ⟨fun y hy => (by cases hy), fun y hy => ?_⟩
    cases hy; exact a1.2 x n1
  | ok x => exact absurd (a1.1 x n1).1.1 hb
theorem lnQ_s2 {t : Int → Int} {T e k q v w0 bp e1 k1 q1 v1 w1 b1 bp1 e2 k2 q2 v2 w2 b2 bp2 i : Int} {f f1 : Int → Int} {R S : Nat → Int → Int} (hd : k = 1 ∧ w0 = 382984) (hn : R 0 4 ≠ 6)
    (g1 : wordQ t T (R 0 0) (enx t T e) (knd t T e) (plc t T e) (vlu t T e) (wrd t T e) 0 bp f e1 k1 q1 v1 w1 b1 bp1 f1 i) (hb : b1 = 0) (g2 : needQ t T 4797 e1 k1 q1 v1 w1 b1 bp1 e2 k2 q2 v2 w2 b2 bp2) (hb2 : b2 ≠ 0) : lnQ t T (lineP t T R) e k q v w0 e2 k2 q2 v2 w2 b2 bp2 S := by
  refine ⟨g2.1, fun p ht => ?_⟩
  rw [lineP_s hd hn ht]
  have a1 := g1.2.2.2 (enx t T p) rfl (by rw [ht.2.1]; exact TKP_next ht.1.1 ht.1.2)
  unfold slipP
  cases n1 : wordP t T (R 0 0) (enx t T p) with
  | error x => exact absurd (hb.symm.trans (a1.2 x n1).1).symm (wordP_e n1)
  | ok x =>
    have a2 := g2.2.2 x.2.2 hb (a1.1 x n1).2
    dsimp only
    cases n2 : needP t T 4797 x.2.2 with
    | error y =>
      refine ⟨fun y hy => (by cases hy), fun y hy => ?_⟩
      cases hy; exact a2.2 y n2
    | ok y => exact absurd (a2.1 y n2).1 hb2
theorem lnQ_s3 {t : Int → Int} {T e k q v w0 bp e1 k1 q1 v1 w1 b1 bp1 e2 k2 q2 v2 w2 b2 bp2 e3 k3 q3 v3 w3 b3 bp3 i : Int} {f f1 f3 : Int → Int} {R S : Nat → Int → Int} (hd : k = 1 ∧ w0 = 382984) (hn : R 0 4 ≠ 6)
    (g1 : wordQ t T (R 0 0) (enx t T e) (knd t T e) (plc t T e) (vlu t T e) (wrd t T e) 0 bp f e1 k1 q1 v1 w1 b1 bp1 f1 i) (hb : b1 = 0) (g2 : needQ t T 4797 e1 k1 q1 v1 w1 b1 bp1 e2 k2 q2 v2 w2 b2 bp2) (hb2 : b2 = 0)
    (g3 : wordQ t T (R 0 0) e2 k2 q2 v2 w2 b2 bp2 f1 e3 k3 q3 v3 w3 b3 bp3 f3 (i + 2))
    (hS : ∀ s v s2 v2, f3 = upI (upI (upI (upI f i s) (i + 1) v) (i + 2) s2) (i + 2 + 1) v2 → S = rU (rU (rU (rU (rU R 2 (4 * R 0 4) s) 2 (4 * R 0 4 + 1) v) 2 (4 * R 0 4 + 2) s2) 2 (4 * R 0 4 + 3) v2) 0 4 (R 0 4 + 1)) : lnQ t T (lineP t T R) e k q v w0 e3 k3 q3 v3 w3 b3 bp3 S := by
  refine ⟨g3.1.1, fun p ht => ?_⟩
  rw [lineP_s hd hn ht]
  have a1 := g1.2.2.2 (enx t T p) rfl (by rw [ht.2.1]; exact TKP_next ht.1.1 ht.1.2)
  unfold slipP
  cases n1 : wordP t T (R 0 0) (enx t T p) with
  | error x => exact absurd (hb.symm.trans (a1.2 x n1).1).symm (wordP_e n1)
  | ok x =>
    have a1 := a1.1 x n1
    have a2 := g2.2.2 x.2.2 hb a1.2
    dsimp only
    cases n2 : needP t T 4797 x.2.2 with
    | error y => exact absurd (hb2.symm.trans (a2.2 y n2).1).symm (needP_e n2)
    | ok y =>
      have a2 := a2.1 y n2
      have a3 := g3.2.2.2 y hb2 a2.2
      dsimp only
      cases n3 : wordP t T (R 0 0) y with
      | error z =>
        refine ⟨fun y hy => (by cases hy), fun y hy => ?_⟩
        cases hy; exact a3.2 z n3
      | ok z =>
        have a3 := a3.1 z n3
        refine ⟨fun y hy => ?_, fun y hy => by cases hy⟩
        cases hy
        exact ⟨⟨a3.1.1, hS _ _ _ _ (by rw [a3.1.2, a1.1.2])⟩, a3.2⟩
theorem lnQ_n {t : Int → Int} {T e k q v w0 bp e1 k1 q1 v1 w1 b1 bp1 r hi : Int} {R S : Nat → Int → Int} (hd : k = 1 ∧ w0 = 212302449) (hn : R 0 5 ≠ 20) (hh : hi = R 0 2 - 1)
    (g1 : numQ t T 0 hi (enx t T e) (knd t T e) (plc t T e) (vlu t T e) (wrd t T e) 0 bp e1 k1 q1 v1 w1 b1 bp1 r) (hS : S = rU (rU R 3 (R 0 5) r) 0 5 (R 0 5 + 1)) : lnQ t T (lineP t T R) e k q v w0 e1 k1 q1 v1 w1 b1 bp1 S := by
  refine ⟨g1.1.1, fun p ht => ?_⟩
  have a1 := g1.2.2 (enx t T p) rfl (by rw [ht.2.1]; exact TKP_next ht.1.1 ht.1.2)
  unfold lineP
  rw [← ht.2.2.1, ← ht.2.2.2.2.2, if_neg (fun h => absurd (h.2.symm.trans hd.2) (by decide)), if_neg (fun h => absurd (h.2.symm.trans hd.2) (by decide)), if_pos hd, if_neg hn, ← hh]
  cases n1 : numP t T 0 hi (enx t T p) with
  | error x =>
    refine ⟨fun y hy => (by cases hy), fun y hy => ?_⟩
    cases hy; exact a1.2 x n1
  | ok x =>
    have a1 := a1.1 x n1
    refine ⟨fun y hy => ?_, fun y hy => by cases hy⟩
    cases hy
    exact ⟨⟨a1.1.1, by rw [hS, a1.1.2]⟩, a1.2⟩
/-- at 77 of a line: unfailed, or how it fails -/
def lnG (k w n m b bp bp0 q x1 : Int) : Prop := ¬ (k = 1 ∧ w = 2427955) ∧ ((b = 0 ∧ bp = bp0 ∧ ((x1 = 1 ∧ (k = 1 ∧ w = 382984) ∧ n ≠ 6) ∨ (x1 = 0 ∧ (k = 1 ∧ w = 212302449) ∧ m ≠ 20))) ∨ (b ≠ 0 ∧ bp = q ∧ lnC k w n m b))
section
variable {k w n m bp q x1 x2 : Int}
theorem lnG_a (hd : ¬ (k = 1 ∧ w = 2427955)) (h1 : x1 = bI (k = 1 ∧ w = 382984)) (c : ¬ x1 = 0) (hn : n = 6) : lnG k w n m 3 q bp q x1 :=
  ⟨hd, Or.inr ⟨by decide, rfl, Or.inr (Or.inl ⟨rfl, bI_n.mp (by rw [← h1]; exact c), hn⟩)⟩⟩
theorem lnG_b (hd : ¬ (k = 1 ∧ w = 2427955)) (h1 : x1 = bI (k = 1 ∧ w = 382984)) (c : ¬ x1 = 0) (hn : ¬ n = 6) : lnG k w n m 0 bp bp q x1 := by
  have h := bI_n.mp (by rw [← h1]; exact c : ¬ bI (k = 1 ∧ w = 382984) = 0)
  exact ⟨hd, Or.inl ⟨rfl, rfl, Or.inl ⟨by rw [h1, bI_t h], h, hn⟩⟩⟩
theorem lnG_c (hd : ¬ (k = 1 ∧ w = 2427955)) (h2 : x2 = bI (k = 1 ∧ w = 212302449)) (c : ¬ x2 = 0) (hn : m = 20) : lnG k w n m 3 q bp q x1 :=
  ⟨hd, Or.inr ⟨by decide, rfl, Or.inr (Or.inr ⟨rfl, bI_n.mp (by rw [← h2]; exact c), hn⟩)⟩⟩
theorem lnG_d (hd : ¬ (k = 1 ∧ w = 2427955)) (h2 : x2 = bI (k = 1 ∧ w = 212302449)) (c1 : x1 = 0) (c : ¬ x2 = 0) (hn : ¬ m = 20) : lnG k w n m 0 bp bp q x1 :=
  ⟨hd, Or.inl ⟨rfl, rfl, Or.inr ⟨c1, bI_n.mp (by rw [← h2]; exact c), hn⟩⟩⟩
theorem lnG_e (hd : ¬ (k = 1 ∧ w = 2427955)) (h1 : x1 = bI (k = 1 ∧ w = 382984)) (h2 : x2 = bI (k = 1 ∧ w = 212302449)) (c1 : x1 = 0) (c2 : x2 = 0) : lnG k w n m 1 q bp q x1 :=
  ⟨hd, Or.inr ⟨by decide, rfl, Or.inl ⟨rfl, bI_0.mp (by rw [← h1]; exact c1), bI_0.mp (by rw [← h2]; exact c2)⟩⟩⟩
theorem lnG_x {C : Prop} (h1 : x1 = bI (k = 1 ∧ w = 382984)) (h2 : x2 = bI (k = 1 ∧ w = 212302449)) (c1 : ¬ x1 = 0) (c2 : ¬ x2 = 0) : C := by
  have a := bI_n.mp (by rw [← h1]; exact c1 : ¬ bI (k = 1 ∧ w = 382984) = 0)
  have b := bI_n.mp (by rw [← h2]; exact c2 : ¬ bI (k = 1 ∧ w = 212302449) = 0)
  exact absurd (a.2.symm.trans b.2) (by decide)
end
