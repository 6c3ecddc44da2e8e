/-! TEXTS: the doing -/
set_option maxRecDepth 100000
/-- what is read, as the reference keeps it -/
def rep (h a sl td : Int → Int) (dn : Int) : Nat → Int → Int := fun j => if j = 0 then fun i => h (24 + i) else if j = 1 then fun i => a (96 + i) else if j = 2 then fun i => sl (96 + i) else if j = 3 then fun i => td (80 + i) else if j = 4 then fun i => if i = 0 then dn else 0 else fun _ => 0
theorem up_off {f : Int → Int} {o i v j : Int} (hj : j = o + i) : (fun z => upI f j v (o + z)) = upI (fun z => f (o + z)) i v := by
  funext z
  unfold upI
  by_cases e : z = i
  · rw [if_pos (by omega), if_pos e]
  · rw [if_neg (by omega), if_neg e]
theorem rep_h {h a sl td : Int → Int} {dn i v j : Int} (hj : j = 24 + i) : rep (upI h j v) a sl td dn = rU (rep h a sl td dn) 0 i v := by
  funext z
  unfold rU
  by_cases e : z = 0
  · subst e; rw [if_pos rfl]; exact up_off hj
  · rw [if_neg e]; unfold rep; rw [if_neg e, if_neg e]
theorem rep_a {h a sl td : Int → Int} {dn i v j : Int} (hj : j = 96 + i) : rep h (upI a j v) sl td dn = rU (rep h a sl td dn) 1 i v := by
  funext z
  unfold rU
  by_cases e : z = 1
  · subst e; rw [if_pos rfl]; exact up_off hj
  · rw [if_neg e]; unfold rep
    by_cases e0 : z = 0
    · rw [if_pos e0, if_pos e0]
    · rw [if_neg e0, if_neg e0, if_neg e, if_neg e]
theorem rep_s {h a sl td : Int → Int} {dn i v j : Int} (hj : j = 96 + i) : rep h a (upI sl j v) td dn = rU (rep h a sl td dn) 2 i v := by
  funext z
  unfold rU
  by_cases e : z = 2
  · subst e; rw [if_pos rfl]; exact up_off hj
  · rw [if_neg e]; unfold rep
    by_cases e0 : z = 0
    · rw [if_pos e0, if_pos e0]
    · rw [if_neg e0, if_neg e0]
      by_cases e1 : z = 1
      · rw [if_pos e1, if_pos e1]
      · rw [if_neg e1, if_neg e1, if_neg e, if_neg e]
theorem rep_t {h a sl td : Int → Int} {dn i v j : Int} (hj : j = 80 + i) : rep h a sl (upI td j v) dn = rU (rep h a sl td dn) 3 i v := by
  funext z
  unfold rU
  by_cases e : z = 3
  · subst e; rw [if_pos rfl]; exact up_off hj
  · rw [if_neg e]; unfold rep
    by_cases e0 : z = 0
    · rw [if_pos e0, if_pos e0]
    · rw [if_neg e0, if_neg e0]
      by_cases e1 : z = 1
      · rw [if_pos e1, if_pos e1]
      · rw [if_neg e1, if_neg e1]
        by_cases e2 : z = 2
        · rw [if_pos e2, if_pos e2]
        · rw [if_neg e2, if_neg e2, if_neg e, if_neg e]
theorem rep_d {h a sl td : Int → Int} {dn v : Int} : rep h a sl td v = rU (rep h a sl td dn) 4 0 v := by
  funext z
  unfold rU
  by_cases e : z = 4
  · subst e; rw [if_pos rfl]
    funext i
    show (if i = 0 then v else 0) = upI (fun i => if i = 0 then dn else 0) 0 v i
    unfold upI
    by_cases q : i = 0
    · rw [if_pos q, if_pos q]
    · rw [if_neg q, if_neg q]; exact (if_neg q).symm
  · rw [if_neg e]; unfold rep
    by_cases e0 : z = 0
    · rw [if_pos e0, if_pos e0]
    · rw [if_neg e0, if_neg e0]
      by_cases e1 : z = 1
      · rw [if_pos e1, if_pos e1]
      · rw [if_neg e1, if_neg e1]
        by_cases e2 : z = 2
        · rw [if_pos e2, if_pos e2]
        · rw [if_neg e2, if_neg e2]
          by_cases e3 : z = 3
          · rw [if_pos e3, if_pos e3]
          · rw [if_neg e3, if_neg e3, if_neg e, if_neg e]

/-- what a doing makes of the reading: R what was read, S what is read -/
def doQ (t : Int → Int) (T : Int) (R : Nat → Int → Int) (e k q v w0 b bp e' k' q' v' w' b' bp' : Int) (S : Nat → Int → Int) : Prop := (0 ≤ e' ∧ e' ≤ T) ∧ (b ≠ 0 → b' = b ∧ bp' = bp) ∧ ∀ p, b = 0 → TKP t T p e k q v w0 →
  (R 4 0 ≠ 0 → b' = 2 ∧ bp' = plc t T p) ∧ (R 4 0 = 0 → (∀ x, doP t T 13 (rU R 4 0 1) (enx t T p) = .ok x → (b' = 0 ∧ S = x.1) ∧ TKP t T x.2 e' k' q' v' w') ∧ (∀ x, doP t T 13 (rU R 4 0 1) (enx t T p) = .error x → b' = x.1 ∧ bp' = x.2))
/-- a doing under way: F how it is to end; m: more is to come -/
def DI (t : Int → Int) (T : Int) (F : Except (Int × Int) ((Nat → Int → Int) × Int)) (S : Nat → Int → Int) (c m e k q v w b bp : Int) : Prop :=
  (b = 0 → m = 1 → ∃ p n, TKP t T p e k q v w ∧ doP t T n S p = F ∧ c + (n : Int) = 13 ∧ 0 < n) ∧ (b = 0 → m = 0 → ∃ p, TKP t T p e k q v w ∧ F = .ok (S, p)) ∧ (b ≠ 0 → F = .error (b, bp))
theorem DI_many {t : Int → Int} {T : Int} {F : Except (Int × Int) ((Nat → Int → Int) × Int)} {S S' : Nat → Int → Int} {c m' e k q v w bp : Int} (h : DI t T F S c 1 e k q v w 0 bp) (hc : S 0 3 = 12) (hs : (if k = 1 then sortOf w else -1) ≠ -1) : DI t T F S' c m' e k q v w 3 q := by
  obtain ⟨p, n, ht, hf, hn, hn0⟩ := h.1 rfl rfl
  obtain ⟨n, rfl⟩ : ∃ m, n = m + 1 := ⟨n - 1, by omega⟩
  have en : doP t T (n + 1) S p = .error (3, plc t T p) := if_pos ⟨hc, by rw [sortAt_of ht]; exact hs⟩
  refine ⟨fun h => absurd h (by decide), fun h => absurd h (by decide), fun _ => ?_⟩
  rw [← hf, en, ht.2.2.2.1]
theorem numP_e {t : Int → Int} {T lo hi p : Int} {x : Int × Int} (h : numP t T lo hi p = .error x) : x.1 ≠ 0 := by
  by_cases a : knd t T p ≠ 2
  · have e : numP t T lo hi p = .error (1, plc t T p) := if_pos a
    rw [e] at h; cases h; show (1 : Int) ≠ 0; decide
  · by_cases b : ¬ (lo ≤ vlu t T p ∧ vlu t T p ≤ hi)
    · have e : numP t T lo hi p = .error (2, plc t T p) := (if_neg a).trans (if_pos b)
      rw [e] at h; cases h; show (2 : Int) ≠ 0; decide
    · have e : numP t T lo hi p = .ok (vlu t T p, enx t T p) := (if_neg a).trans (if_neg b)
      rw [e] at h; cases h
theorem wordP_e {t : Int → Int} {T B p : Int} {x : Int × Int} (h : wordP t T B p = .error x) : x.1 ≠ 0 := by
  unfold wordP at h
  split at h
  · cases h; show (1 : Int) ≠ 0; decide
  · split at h
    · cases h
    · split at h
      · rename_i e he
        cases h
        exact numP_e he
      · cases h
theorem DI_word {t : Int → Int} {T B : Int} {F : Except (Int × Int) ((Nat → Int → Int) × Int)} {S : Nat → Int → Int} {c e k q v w bp e' k' q' v' w' b' bp' i m' : Int} {f f' : Int → Int} {S2 : Int → Int → Nat → Int → Int} (h : DI t T F S c 1 e k q v w 0 bp) (hS : S 0 3 = c) (hB : S 0 0 = B) (hc : ¬ (c = 12 ∧ (if k = 1 then sortOf w else -1) ≠ -1))
    (g : wordQ t T B e k q v w 0 bp f e' k' q' v' w' b' bp' f' i) (hm : (m' = 1 ∧ k' = 1) ∨ (m' = 0 ∧ k' ≠ 1)) (S' : Nat → Int → Int) (hS' : ∀ s x, f' = upI (upI f i s) (i + 1) x → S' = rU (rU (rU S 1 (2 * c) s) 1 (2 * c + 1) x) 0 3 (c + 1)) : (b' = 0 → c ≤ 11 ∧ DI t T F S' (c + 1) m' e' k' q' v' w' b' bp') ∧ (b' ≠ 0 → F = .error (b', bp')) := by
  obtain ⟨p, n, ht, hf, hn, hn0⟩ := h.1 rfl rfl
  obtain ⟨n, rfl⟩ : ∃ m, n = m + 1 := ⟨n - 1, by omega⟩
  have hg := g.2.2.2 p rfl ht
  have en : doP t T (n + 1) S p = match wordP t T B p with
    | .error e => .error e
    | .ok (s, v, q) => if knd t T q = 1 then doP t T n (rU (rU (rU S 1 (2 * c) s) 1 (2 * c + 1) v) 0 3 (c + 1)) q else .ok (rU (rU (rU S 1 (2 * c) s) 1 (2 * c + 1) v) 0 3 (c + 1), q) := by
    rw [← hB, ← hS]
    exact if_neg (fun q => hc ⟨by rw [← hS]; exact q.1, by have := q.2; rw [sortAt_of ht] at this; exact this⟩)
  cases hw : wordP t T B p with
  | error x =>
    have hx := hg.2 x hw
    have he := wordP_e hw
    rw [hw] at en
    refine ⟨fun hb => absurd hb (by rw [hx.1]; exact he), fun _ => ?_⟩
    rw [← hf, en, hx.1, hx.2]
  | ok x =>
    have hx := hg.1 x hw
    rw [hw] at en
    refine ⟨fun hb => ?_, fun hb => absurd hx.1.1 hb⟩
    have es := hS' _ _ hx.1.2
    have hc12 : c ≠ 12 := fun e12 => by
      have h1 : sortAt t T p = -1 := by
        rw [sortAt_of ht]; exact Classical.not_not.mp (fun q => hc ⟨e12, q⟩)
      have h2 : wordP t T B p = .error (1, plc t T p) := if_pos h1
      rw [h2] at hw; cases hw
    have hk := hx.2.2.2.1
    by_cases q1 : knd t T x.2.2 = 1
    · have en2 : doP t T (n + 1) S p = doP t T n S' x.2.2 := by rw [en, es]; exact if_pos q1
      refine ⟨by rw [Int.natCast_succ] at hn; omega, fun _ _ => ⟨x.2.2, n, hx.2, by rw [← en2]; exact hf, ?_, ?_⟩, fun _ hz => ?_, fun hz => absurd hb hz⟩
      · rw [Int.natCast_succ] at hn; omega
      · rw [Int.natCast_succ] at hn; omega
      · omega
    · have en2 : doP t T (n + 1) S p = .ok (S', x.2.2) := by rw [en, es]; exact if_neg q1
      exact ⟨by rw [Int.natCast_succ] at hn; omega, fun _ hz => by omega, fun _ _ => ⟨x.2.2, hx.2, by rw [← hf, en2]⟩, fun hz => absurd hb hz⟩
theorem doQ_bad {t : Int → Int} {T : Int} {R S : Nat → Int → Int} {e k q v w0 bp e' k' q' v' w' b' bp' c m : Int} (h0 : 0 ≤ e' ∧ e' ≤ T) (hR : R 4 0 = 0) (hb : b' ≠ 0)
    (h : ∀ p0, TKP t T p0 e k q v w0 → DI t T (doP t T 13 (rU R 4 0 1) (enx t T p0)) S c m e' k' q' v' w' b' bp') : doQ t T R e k q v w0 0 bp e' k' q' v' w' b' bp' S := by
  refine ⟨h0, fun h => absurd rfl h, fun p _ ht => ⟨fun h => absurd hR h, fun _ => ?_⟩⟩
  have e := (h p ht).2.2 hb
  rw [e]
  refine ⟨fun x hx => (by cases hx), fun x hx => ?_⟩
  cases hx; exact ⟨rfl, rfl⟩
theorem doQ_end {t : Int → Int} {T : Int} {R S : Nat → Int → Int} {e k q v w0 bp e' k' q' v' w' b' bp' c m : Int} (h0 : 0 ≤ e' ∧ e' ≤ T) (hR : R 4 0 = 0) (hb : b' = 0) (hm : m = 0)
    (h : ∀ p0, TKP t T p0 e k q v w0 → DI t T (doP t T 13 (rU R 4 0 1) (enx t T p0)) S c m e' k' q' v' w' b' bp') : doQ t T R e k q v w0 0 bp e' k' q' v' w' b' bp' S := by
  refine ⟨h0, fun h => absurd rfl h, fun p _ ht => ⟨fun h => absurd hR h, fun _ => ?_⟩⟩
  obtain ⟨p1, h1, e⟩ := (h p ht).2.1 hb hm
  rw [e]
  refine ⟨fun x hx => ?_, fun x hx => by cases hx⟩
  cases hx; exact ⟨⟨hb, rfl⟩, h1⟩
theorem doQ_0 {t : Int → Int} {T : Int} {R : Nat → Int → Int} {e k q v w0 b bp b' bp' : Int} (h0 : 0 ≤ e ∧ e ≤ T) (h : b ≠ 0 ∨ R 4 0 ≠ 0) (hb : b' = if b = 0 then 2 else b) (hbp : bp' = if b = 0 then q else bp) : doQ t T R e k q v w0 b bp e k q v w0 b' bp' R := by
  refine ⟨h0, fun h => by rw [hb, hbp, if_neg h, if_neg h]; exact ⟨rfl, rfl⟩, fun p hz ht => ⟨fun _ => ?_, fun hR => ?_⟩⟩
  · rw [hb, hbp, if_pos hz, if_pos hz]; exact ⟨rfl, ht.2.2.2.1⟩
  · exact absurd hR (h.resolve_left (fun q => q hz))
theorem DI_begin {t : Int → Int} {T : Int} {R : Nat → Int → Int} {e k q v w0 bp p : Int} (ht : TKP t T p e k q v w0) : DI t T (doP t T 13 (rU R 4 0 1) (enx t T p)) (rU R 4 0 1) 0 1 (enx t T e) (knd t T e) (plc t T e) (vlu t T e) (wrd t T e) 0 bp := by
  refine ⟨fun _ _ => ⟨enx t T p, 13, ?_, rfl, by decide, by decide⟩, fun _ h => absurd h (by decide), fun h => absurd rfl h⟩
  rw [ht.2.1]
  exact TKP_next ht.1.1 ht.1.2
theorem DI_step {t : Int → Int} {T : Int} {F : Except (Int × Int) ((Nat → Int → Int) × Int)} {f6 f7 s8 s9 f' : Int → Int} {dn e k q v w bp e' k' q' v' w' b' bp' m' : Int} (h : DI t T F (rep f6 f7 s8 s9 dn) (f6 27) 1 e k q v w 0 bp) (hc : ¬ (f6 27 = 12 ∧ (if k = 1 then sortOf w else -1) ≠ -1))
    (g : wordQ t T (f6 24) e k q v w 0 bp f7 e' k' q' v' w' b' bp' f' (2 * (48 + f6 27))) (hm : (m' = 1 ∧ k' = 1) ∨ (m' = 0 ∧ k' ≠ 1)) : (b' = 0 → f6 27 ≤ 11 ∧ DI t T F (rep (upI f6 27 (f6 27 + 1)) f' s8 s9 dn) (f6 27 + 1) m' e' k' q' v' w' b' bp') ∧ (b' ≠ 0 → ∀ S c m2, DI t T F S c m2 e' k' q' v' w' b' bp') := by
  have a := DI_word (S2 := fun _ _ => fun _ _ => 0) h rfl rfl hc g hm (rep (upI f6 27 (f6 27 + 1)) f' s8 s9 dn) (fun s x hx => by
    rw [rep_h (i := 3) (by omega), hx, rep_a (i := 2 * f6 27 + 1) (by omega), rep_a (i := 2 * f6 27) (by omega)])
  exact ⟨a.1, fun hb S c m2 => ⟨fun z => absurd z hb, fun z => absurd z hb, fun _ => a.2 hb⟩⟩
