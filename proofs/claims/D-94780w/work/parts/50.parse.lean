/-! TEXTS: what a text means. An error: its kind, its place -/
set_option maxRecDepth 100000
noncomputable def needP (t : Int → Int) (T w p : Int) : Except (Int × Int) Int := if knd t T p = 1 ∧ wrd t T p = w then .ok (enx t T p) else .error (1, plc t T p)
noncomputable def numP (t : Int → Int) (T lo hi p : Int) : Except (Int × Int) (Int × Int) := if knd t T p ≠ 2 then .error (1, plc t T p) else if ¬ (lo ≤ vlu t T p ∧ vlu t T p ≤ hi) then .error (2, plc t T p) else .ok (vlu t T p, enx t T p)
def sortOf (w : Int) : Int := if w = 90302 then 0 else if w = 583 then 1 else if w = 409469 then 2 else if w = 220309 then 3 else if w = 40187 then 4 else if w = 240373 then 5 else if w = 841 then 6 else if w = 282078293 then 7
  else if w = 74417 then 8 else if w = 14431 then 9 else if w = 158523 then 10 else if w = 3379448 then 11 else if w = 10815598 then 12 else if w = 324262 then 13 else if w = 11522 then 14 else -1
noncomputable def sortAt (t : Int → Int) (T p : Int) : Int := if knd t T p = 1 then sortOf (wrd t T p) else -1
/-- a word: its sort, its number, where what follows begins -/
noncomputable def wordP (t : Int → Int) (T B p : Int) : Except (Int × Int) (Int × Int × Int) :=
  if sortAt t T p = -1 then .error (1, plc t T p) else if sortAt t T p < 12 then .ok (sortAt t T p, -1, enx t T p)
  else match numP t T 0 (if sortAt t T p = 14 then B - 1 else 99) (enx t T p) with
    | .error e => .error e
    | .ok (v, q) => .ok (sortAt t T p, v, q)
/-- what is read so far: 0 the head, 1 words, 2 slips, 3 told numbers, 4 at 0 whether a doing was there -/
def rU (R : Nat → Int → Int) (j : Nat) (i v : Int) : Nat → Int → Int := fun z => if z = j then upI (R j) i v else R z
noncomputable def firstP (t : Int → Int) (T : Int) (R : Nat → Int → Int) (p : Int) : Except (Int × Int) ((Nat → Int → Int) × Int) :=
  match needP t T 10650290 p with
  | .error e => .error e
  | .ok p1 => match needP t T 40613 p1 with
    | .error e => .error e
    | .ok p2 => match numP t T 2 16 p2 with
      | .error e => .error e
      | .ok (b, p3) => match needP t T 247516 p3 with
        | .error e => .error e
        | .ok p4 => if knd t T p4 = 2 ∧ (1 ≤ vlu t T p4 ∧ vlu t T p4 ≤ 8) ∧ 10000 < pwN b (vlu t T p4).toNat then .error (2, plc t T p4) else
          match numP t T 1 8 p4 with
          | .error e => .error e
          | .ok (l, p5) => .ok (rU (rU (rU R 0 0 b) 0 1 l) 0 2 (pwN b l.toNat), p5)
noncomputable def doP (t : Int → Int) (T : Int) : Nat → (Nat → Int → Int) → Int → Except (Int × Int) ((Nat → Int → Int) × Int)
  | 0, R, p => .ok (R, p)
  | n + 1, R, p => if R 0 3 = 12 ∧ sortAt t T p ≠ -1 then .error (3, plc t T p) else
    match wordP t T (R 0 0) p with
    | .error e => .error e
    | .ok (s, v, q) => if knd t T q = 1 then doP t T n (rU (rU (rU R 1 (2 * R 0 3) s) 1 (2 * R 0 3 + 1) v) 0 3 (R 0 3 + 1)) q else .ok (rU (rU (rU R 1 (2 * R 0 3) s) 1 (2 * R 0 3 + 1) v) 0 3 (R 0 3 + 1), q)
noncomputable def slipP (t : Int → Int) (T : Int) (R : Nat → Int → Int) (p : Int) : Except (Int × Int) ((Nat → Int → Int) × Int) :=
  match wordP t T (R 0 0) p with
  | .error e => .error e
  | .ok (s, v, q) => match needP t T 4797 q with
    | .error e => .error e
    | .ok q1 => match wordP t T (R 0 0) q1 with
      | .error e => .error e
      | .ok (s2, v2, q2) => .ok (rU (rU (rU (rU (rU R 2 (4 * R 0 4) s) 2 (4 * R 0 4 + 1) v) 2 (4 * R 0 4 + 2) s2) 2 (4 * R 0 4 + 3) v2) 0 4 (R 0 4 + 1), q2)
noncomputable def lineP (t : Int → Int) (T : Int) (R : Nat → Int → Int) (p : Int) : Except (Int × Int) ((Nat → Int → Int) × Int) :=
  if knd t T p = 1 ∧ wrd t T p = 2427955 then (if R 4 0 ≠ 0 then .error (2, plc t T p) else doP t T 13 (rU R 4 0 1) (enx t T p))
  else if knd t T p = 1 ∧ wrd t T p = 382984 then (if R 0 4 = 6 then .error (3, plc t T p) else slipP t T R (enx t T p))
  else if knd t T p = 1 ∧ wrd t T p = 212302449 then (if R 0 5 = 20 then .error (3, plc t T p) else
    match numP t T 0 (R 0 2 - 1) (enx t T p) with
    | .error e => .error e
    | .ok (v, q) => .ok (rU (rU R 3 (R 0 5) v) 0 5 (R 0 5 + 1), q))
  else .error (1, plc t T p)
noncomputable def stopP (t : Int → Int) (T p : Int) : Except (Int × Int) Int := if knd t T p = 3 then .ok (enx t T p) else .error (1, plc t T p)
noncomputable def textP (t : Int → Int) (T : Int) : Nat → (Nat → Int → Int) → Int → Int → Except (Int × Int) ((Nat → Int → Int) × Int)
  | 0, R, ln, _ => .ok (R, ln)
  | n + 1, R, ln, p => if knd t T p = 0 then .ok (R, ln) else
    match (if ln = 0 then firstP t T R p else lineP t T R p) with
    | .error e => .error e
    | .ok (R', p') => match stopP t T p' with
      | .error e => .error e
      | .ok q => textP t T n R' (ln + 1) q
/-- the reading of a whole tape -/
noncomputable def readP (t : Int → Int) (T : Int) : Except (Int × Int) ((Nat → Int → Int) × Int) := textP t T 801 (fun _ _ => 0) 0 0
/-- the scalars tell the token at p -/
def TKP (t : Int → Int) (T p e k q v w : Int) : Prop := (0 ≤ p ∧ p ≤ T) ∧ e = enx t T p ∧ k = knd t T p ∧ q = plc t T p ∧ v = vlu t T p ∧ w = wrd t T p
theorem adv_b {P : Int → Prop} {p T : Int} (hT : ∀ q, P q → q < T) (h : p ≤ T) : p ≤ adv P p ∧ adv P p ≤ T ∧ ¬ P (adv P p) := by
  have hx := theLeast_of (p := fun n : Nat => ¬ P (p + n)) (n := (T - p).toNat) (fun q => by have := hT _ q; omega)
  unfold adv
  exact ⟨by omega, by omega, hx.1.1⟩
theorem plc_b {t : Int → Int} {T p : Int} (h : p ≤ T) : p ≤ plc t T p ∧ plc t T p ≤ T := by
  have := adv_b (isWs_T (t := t) (T := T)) h
  exact ⟨this.1, this.2.1⟩
theorem enx_b {t : Int → Int} {T p : Int} (h : p ≤ T) : p ≤ enx t T p ∧ enx t T p ≤ T ∧ (knd t T p ≠ 0 → p + 1 ≤ enx t T p) := by
  have hb := plc_b (t := t) h
  by_cases h0 : plc t T p = T
  · have := tok_end rfl h0; rw [this.1, this.2.1]; exact ⟨by omega, by omega, fun q => absurd rfl q⟩
  · by_cases h1 : isB t T 97 122 (plc t T p)
    · have hw := tok_word rfl h1
      have e := adv_y (T := T) isB_T h1
      have hv := adv_b (isB_T (t := t) (T := T) (lo := 97) (hi := 122)) (p := plc t T p + 1) (by omega)
      rw [hw.2.1, e]; omega
    · by_cases h2 : isB t T 48 57 (plc t T p)
      · have hw := tok_num rfl h1 h2
        have e := adv_y (T := T) isB_T h2
        have hv := adv_b (isB_T (t := t) (T := T) (lo := 48) (hi := 57)) (p := plc t T p + 1) (by omega)
        rw [hw.2.1, e]; omega
      · have hw := tok_sign rfl h0 h1 h2
        rw [hw.2.2.1]; omega
theorem TKP_next {t : Int → Int} {T p : Int} (h0 : 0 ≤ p) (h1 : p ≤ T) : TKP t T (enx t T p) (enx t T (enx t T p)) (knd t T (enx t T p)) (plc t T (enx t T p)) (vlu t T (enx t T p)) (wrd t T (enx t T p)) := by
  have := enx_b (t := t) h1
  exact ⟨⟨by omega, this.2.1⟩, rfl, rfl, rfl, rfl, rfl⟩
/-- what asking for a word makes of the reading -/
def needQ (t : Int → Int) (T w e k q v w0 b bp e' k' q' v' w' b' bp' : Int) : Prop := (0 ≤ e' ∧ e' ≤ T) ∧ (b ≠ 0 → b' = b ∧ bp' = bp) ∧ ∀ p, b = 0 → TKP t T p e k q v w0 → (∀ p', needP t T w p = .ok p' → b' = 0 ∧ TKP t T p' e' k' q' v' w') ∧ (∀ x, needP t T w p = .error x → b' = x.1 ∧ bp' = x.2)
theorem needQ_y {t : Int → Int} {T w e k q v w0 b bp : Int} (h0 : 0 ≤ e) (h1 : e ≤ T) (hb : b = 0) (hk : k = 1) (hw : w0 = w) : needQ t T w e k q v w0 b bp (enx t T e) (knd t T e) (plc t T e) (vlu t T e) (wrd t T e) b bp := by
  have := enx_b (t := t) h1
  refine ⟨⟨by omega, this.2.1⟩, fun h => absurd hb h, fun p _ ht => ?_⟩
  have en : needP t T w p = .ok (enx t T p) := if_pos ⟨by rw [← ht.2.2.1]; exact hk, by rw [← ht.2.2.2.2.2]; exact hw⟩
  rw [en]
  refine ⟨fun p' hp => ?_, fun x hx => by cases hx⟩
  cases hp
  rw [ht.2.1]
  exact ⟨hb, TKP_next ht.1.1 ht.1.2⟩
theorem needQ_n {t : Int → Int} {T w e k q v w0 b bp : Int} (h0 : 0 ≤ e) (h1 : e ≤ T) (hn : ¬ (b = 0 ∧ k = 1 ∧ w0 = w)) : needQ t T w e k q v w0 b bp e k q v w0 (if b = 0 then 1 else b) (if b = 0 then q else bp) := by
  refine ⟨⟨h0, h1⟩, fun h => by rw [if_neg h, if_neg h]; exact ⟨rfl, rfl⟩, fun p hb ht => ?_⟩
  have en : needP t T w p = .error (1, plc t T p) := if_neg (fun h => hn ⟨hb, by rw [ht.2.2.1]; exact h.1, by rw [ht.2.2.2.2.2]; exact h.2⟩)
  rw [en]
  refine ⟨fun p' hp => (by cases hp), fun x hx => ?_⟩
  cases hx
  rw [if_pos hb, if_pos hb]
  exact ⟨rfl, ht.2.2.2.1⟩
def stopQ (t : Int → Int) (T e k q v w0 b bp e' k' q' v' w' b' bp' : Int) : Prop := (0 ≤ e' ∧ e' ≤ T) ∧ (b ≠ 0 → b' = b ∧ bp' = bp) ∧ ∀ p, b = 0 → TKP t T p e k q v w0 → (∀ p', stopP t T p = .ok p' → b' = 0 ∧ TKP t T p' e' k' q' v' w') ∧ (∀ x, stopP t T p = .error x → b' = x.1 ∧ bp' = x.2)
theorem stopQ_y {t : Int → Int} {T e k q v w0 b bp : Int} (h0 : 0 ≤ e) (h1 : e ≤ T) (hb : b = 0) (hk : k = 3) : stopQ t T e k q v w0 b bp (enx t T e) (knd t T e) (plc t T e) (vlu t T e) (wrd t T e) b bp := by
  have := enx_b (t := t) h1
  refine ⟨⟨by omega, this.2.1⟩, fun h => absurd hb h, fun p _ ht => ?_⟩
  have en : stopP t T p = .ok (enx t T p) := if_pos (by rw [← ht.2.2.1]; exact hk)
  rw [en]
  refine ⟨fun p' hp => ?_, fun x hx => by cases hx⟩
  cases hp
  rw [ht.2.1]
  exact ⟨hb, TKP_next ht.1.1 ht.1.2⟩
theorem stopQ_n {t : Int → Int} {T e k q v w0 b bp b' bp' : Int} (h0 : 0 ≤ e) (h1 : e ≤ T) (hn : b ≠ 0 ∨ k ≠ 3) (hb : b' = if b = 0 then 1 else b) (hbp : bp' = if b = 0 then q else bp) : stopQ t T e k q v w0 b bp e k q v w0 b' bp' := by
  refine ⟨⟨h0, h1⟩, fun h => by rw [hb, hbp, if_neg h, if_neg h]; exact ⟨rfl, rfl⟩, fun p hz ht => ?_⟩
  have en : stopP t T p = .error (1, plc t T p) := if_neg (by rw [← ht.2.2.1]; exact hn.resolve_left (fun h => h hz))
  rw [en]
  refine ⟨fun p' hp => (by cases hp), fun x hx => ?_⟩
  cases hx
  rw [hb, hbp, if_pos hz, if_pos hz]
  exact ⟨rfl, ht.2.2.2.1⟩
def numQ (t : Int → Int) (T lo hi e k q v w0 b bp e' k' q' v' w' b' bp' r : Int) : Prop := ((0 ≤ e' ∧ e' ≤ T) ∧ (lo ≤ hi → lo ≤ r ∧ r ≤ hi)) ∧ (b ≠ 0 → b' = b ∧ bp' = bp) ∧ ∀ p, b = 0 → TKP t T p e k q v w0 → (∀ x, numP t T lo hi p = .ok x → (b' = 0 ∧ r = x.1) ∧ TKP t T x.2 e' k' q' v' w') ∧ (∀ x, numP t T lo hi p = .error x → b' = x.1 ∧ bp' = x.2)
theorem numQ_0 {t : Int → Int} {T lo hi e k q v w0 b bp r : Int} (h0 : 0 ≤ e) (h1 : e ≤ T) (hb : b ≠ 0) (hr : r = lo) : numQ t T lo hi e k q v w0 b bp e k q v w0 b bp r :=
  ⟨⟨⟨h0, h1⟩, fun _ => by omega⟩, fun _ => ⟨rfl, rfl⟩, fun p h => absurd h hb⟩
theorem numQ_1 {t : Int → Int} {T lo hi e k q v w0 b bp b' bp' r : Int} (h0 : 0 ≤ e) (h1 : e ≤ T) (hz : b = 0) (hk : k ≠ 2) (hb : b' = if b = 0 then 1 else b) (hbp : bp' = if b = 0 then q else bp) (hr : r = lo) : numQ t T lo hi e k q v w0 b bp e k q v w0 b' bp' r := by
  refine ⟨⟨⟨h0, h1⟩, fun _ => by omega⟩, fun h => absurd hz h, fun p _ ht => ?_⟩
  have en : numP t T lo hi p = .error (1, plc t T p) := if_pos (by rw [← ht.2.2.1]; exact hk)
  rw [en]
  refine ⟨fun p' hp => (by cases hp), fun x hx => ?_⟩
  cases hx
  rw [hb, hbp, if_pos hz, if_pos hz]
  exact ⟨rfl, ht.2.2.2.1⟩
theorem numQ_2 {t : Int → Int} {T lo hi e k q v w0 b bp b' bp' r : Int} (h0 : 0 ≤ e) (h1 : e ≤ T) (hz : b = 0) (hk : k = 2) (hv : ¬ (lo ≤ v ∧ v ≤ hi)) (hb : b' = if b = 0 then 2 else b) (hbp : bp' = if b = 0 then q else bp) (hr : r = lo) : numQ t T lo hi e k q v w0 b bp e k q v w0 b' bp' r := by
  refine ⟨⟨⟨h0, h1⟩, fun _ => by omega⟩, fun h => absurd hz h, fun p _ ht => ?_⟩
  have en : numP t T lo hi p = .error (2, plc t T p) := (if_neg (fun h => h (by rw [← ht.2.2.1]; exact hk))).trans (if_pos (by rw [← ht.2.2.2.2.1]; exact hv))
  rw [en]
  refine ⟨fun p' hp => (by cases hp), fun x hx => ?_⟩
  cases hx
  rw [hb, hbp, if_pos hz, if_pos hz]
  exact ⟨rfl, ht.2.2.2.1⟩
theorem numQ_y {t : Int → Int} {T lo hi e k q v w0 b bp : Int} (h0 : 0 ≤ e) (h1 : e ≤ T) (hz : b = 0) (hk : k = 2) (hv : lo ≤ v ∧ v ≤ hi) : numQ t T lo hi e k q v w0 b bp (enx t T e) (knd t T e) (plc t T e) (vlu t T e) (wrd t T e) b bp v := by
  have := enx_b (t := t) h1
  refine ⟨⟨⟨by omega, this.2.1⟩, fun _ => hv⟩, fun h => absurd hz h, fun p _ ht => ?_⟩
  have en : numP t T lo hi p = .ok (vlu t T p, enx t T p) := (if_neg (fun h => h (by rw [← ht.2.2.1]; exact hk))).trans (if_neg (fun h => h (by rw [← ht.2.2.2.2.1]; exact hv)))
  rw [en]
  refine ⟨fun x hx => ?_, fun x hx => by cases hx⟩
  cases hx
  rw [ht.2.1]
  exact ⟨⟨hz, ht.2.2.2.2.1⟩, TKP_next ht.1.1 ht.1.2⟩
