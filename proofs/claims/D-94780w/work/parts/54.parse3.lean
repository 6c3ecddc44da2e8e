/-! TEXTS: words -/
set_option maxRecDepth 100000
def wordQ (t : Int → Int) (T B e k q v w0 b bp : Int) (f : Int → Int) (e' k' q' v' w' b' bp' : Int) (f' : Int → Int) (i : Int) : Prop := ((0 ≤ e' ∧ e' ≤ T) ∧ (b = 0 → (if b = 0 ∧ k = 1 then sortOf w0 else -1) = -1 → b' ≠ 0)) ∧ (b ≠ 0 → b' = b ∧ bp' = bp) ∧ (∀ z, z ≠ i → z ≠ i + 1 → f' z = f z) ∧ ∀ p, b = 0 → TKP t T p e k q v w0 → (∀ x, wordP t T B p = .ok x → (b' = 0 ∧ f' = upI (upI f i x.1) (i + 1) x.2.1) ∧ TKP t T x.2.2 e' k' q' v' w') ∧ (∀ x, wordP t T B p = .error x → b' = x.1 ∧ bp' = x.2)
theorem sortAt_of {t : Int → Int} {T p e k q v w0 : Int} (ht : TKP t T p e k q v w0) : sortAt t T p = if k = 1 then sortOf w0 else -1 := by
  unfold sortAt
  rw [← ht.2.2.1, ← ht.2.2.2.2.2]
/-- no word -/
theorem wordQ_n {t : Int → Int} {T B e k q v w0 b bp b' bp' : Int} {f : Int → Int} {i : Int} (h0 : 0 ≤ e) (h1 : e ≤ T) (hs : (if b = 0 ∧ k = 1 then sortOf w0 else -1) = -1) (hb : b' = if b = 0 then 1 else b) (hbp : bp' = if b = 0 then q else bp) : wordQ t T B e k q v w0 b bp f e k q v w0 b' bp' f i := by
  refine ⟨⟨⟨h0, h1⟩, fun hz _ => by rw [hb, if_pos hz]; decide⟩, fun h => by rw [hb, hbp, if_neg h, if_neg h]; exact ⟨rfl, rfl⟩, fun z _ _ => rfl, fun p hz ht => ?_⟩
  have es : sortAt t T p = -1 := by
    rw [sortAt_of ht]
    by_cases hk : k = 1
    · rw [if_pos ⟨hz, hk⟩] at hs; rw [if_pos hk]; exact hs
    · exact if_neg hk
  have en : wordP t T B p = .error (1, plc t T p) := if_pos es
  rw [en]
  refine ⟨fun x hx => (by cases hx), fun x hx => ?_⟩
  cases hx
  rw [hb, hbp, if_pos hz, if_pos hz]
  exact ⟨rfl, ht.2.2.2.1⟩
theorem sort_ne {b k w0 s : Int} (h : (if b = 0 ∧ k = 1 then sortOf w0 else -1) = s) (hs : s ≠ -1) : b = 0 ∧ k = 1 ∧ sortOf w0 = s := by
  by_cases q : b = 0 ∧ k = 1
  · rw [if_pos q] at h; exact ⟨q.1, q.2, h⟩
  · rw [if_neg q] at h; exact absurd h.symm hs
/-- a plain word -/
theorem wordQ_p {t : Int → Int} {T B e k q v w0 b bp : Int} {f : Int → Int} {i s : Int} (h0 : 0 ≤ e) (h1 : e ≤ T) (hs : (if b = 0 ∧ k = 1 then sortOf w0 else -1) = s) (hn : s ≠ -1) (hp : s < 12) : wordQ t T B e k q v w0 b bp f (enx t T e) (knd t T e) (plc t T e) (vlu t T e) (wrd t T e) b bp (upI (upI f i s) (i + 1) (-1)) i := by
  have hx := sort_ne hs hn
  have hb := enx_b (t := t) h1
  refine ⟨⟨⟨by omega, hb.2.1⟩, fun _ q => absurd (hs.symm.trans q) hn⟩, fun h => absurd hx.1 h, fun z a c => by rw [upI_n _ _ c, upI_n _ _ a], fun p hz ht => ?_⟩
  have es : sortAt t T p = s := by rw [sortAt_of ht, if_pos hx.2.1]; exact hx.2.2
  have en : wordP t T B p = .ok (s, -1, enx t T p) := by
    unfold wordP
    rw [es, if_neg hn, if_pos hp]
  rw [en]
  refine ⟨fun x hx => ?_, fun x hx => by cases hx⟩
  cases hx
  rw [ht.2.1]
  exact ⟨⟨hz, rfl⟩, TKP_next ht.1.1 ht.1.2⟩
/-- a word with a number -/
theorem wordQ_w {t : Int → Int} {T B e k q v w0 b bp e2 k2 q2 v2 w2 b2 bp2 r hi : Int} {f : Int → Int} {i s : Int} (h0 : 0 ≤ e) (h1 : e ≤ T) (hs : (if b = 0 ∧ k = 1 then sortOf w0 else -1) = s) (hn : s ≠ -1) (hp : ¬ s < 12) (hh : hi = if s = 14 then B - 1 else 99)
    (g : numQ t T 0 hi (enx t T e) (knd t T e) (plc t T e) (vlu t T e) (wrd t T e) b bp e2 k2 q2 v2 w2 b2 bp2 r) : wordQ t T B e k q v w0 b bp f e2 k2 q2 v2 w2 b2 bp2 (upI (upI f i s) (i + 1) r) i := by
  have hx := sort_ne hs hn
  refine ⟨⟨g.1.1, fun _ q => absurd (hs.symm.trans q) hn⟩, fun h => absurd hx.1 h, fun z a c => by rw [upI_n _ _ c, upI_n _ _ a], fun p hz ht => ?_⟩
  have es : sortAt t T p = s := by rw [sortAt_of ht, if_pos hx.2.1]; exact hx.2.2
  have hb := enx_b (t := t) ht.1.2
  have hp0 := ht.1
  have g2 := g.2.2 (enx t T p) hz (by rw [ht.2.1]; exact TKP_next (by omega) (by omega))
  have en : wordP t T B p = match numP t T 0 hi (enx t T p) with
    | .error e => .error e
    | .ok (v, q) => .ok (s, v, q) := by
    unfold wordP
    rw [es, if_neg hn, if_neg hp, hh]
    cases numP t T 0 (if s = 14 then B - 1 else 99) (enx t T p) <;> rfl
  rw [en]
  cases hm : numP t T 0 hi (enx t T p) with
  | error x =>
    have g3 := g2.2 x hm
    refine ⟨fun y hy => (by cases hy), fun y hy => ?_⟩
    cases hy; exact g3
  | ok x =>
    have g3 := g2.1 x hm
    refine ⟨fun y hy => ?_, fun y hy => by cases hy⟩
    cases hy
    exact ⟨⟨g3.1.1, by rw [g3.1.2]⟩, g3.2⟩
