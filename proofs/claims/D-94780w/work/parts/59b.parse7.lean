/-! TEXTS: what is read is good -/
set_option maxRecDepth 100000
theorem rU_s (R : Nat → Int → Int) (j : Nat) (i v : Int) : rU R j i v j = upI (R j) i v := if_pos rfl
theorem rU_n (R : Nat → Int → Int) {j z : Nat} (i v : Int) (h : z ≠ j) : rU R j i v z = R z := if_neg h
theorem needP_ok {t : Int → Int} {T w p p' : Int} (h : needP t T w p = .ok p') (hp : p ≤ T) : p' = enx t T p ∧ p ≤ p' ∧ p' ≤ T := by
  have hb := enx_b (t := t) hp
  by_cases a : knd t T p = 1 ∧ wrd t T p = w
  · have e : needP t T w p = .ok (enx t T p) := if_pos a
    rw [e] at h; cases h; exact ⟨rfl, by omega, by omega⟩
  · have e : needP t T w p = .error (1, plc t T p) := if_neg a
    rw [e] at h; cases h
theorem numP_ok {t : Int → Int} {T lo hi p : Int} {x : Int × Int} (h : numP t T lo hi p = .ok x) (hp : p ≤ T) : (knd t T p = 2 ∧ x.1 = vlu t T p ∧ lo ≤ x.1 ∧ x.1 ≤ hi) ∧ p ≤ x.2 ∧ x.2 ≤ T := by
  have hb := enx_b (t := t) hp
  by_cases a : knd t T p ≠ 2
  · have e : numP t T lo hi p = .error (1, plc t T p) := if_pos a
    rw [e] at h; cases h
  · by_cases b : ¬ (lo ≤ vlu t T p ∧ vlu t T p ≤ hi)
    · have e : numP t T lo hi p = .error (2, plc t T p) := (if_neg a).trans (if_pos b)
      rw [e] at h; cases h
    · have e : numP t T lo hi p = .ok (vlu t T p, enx t T p) := (if_neg a).trans (if_neg b)
      rw [e] at h; cases h
      have b := Classical.not_not.mp b
      exact ⟨⟨Classical.not_not.mp a, rfl, b.1, b.2⟩, by dsimp only; omega, by dsimp only; omega⟩
theorem ite_b {c : Prop} [Decidable c] {a b : Int} (ha : -1 ≤ a ∧ a ≤ 14) (hb : -1 ≤ b ∧ b ≤ 14) : -1 ≤ (if c then a else b) ∧ (if c then a else b) ≤ 14 := by
  by_cases h : c
  · rw [if_pos h]; exact ha
  · rw [if_neg h]; exact hb
theorem sortOf_b (w : Int) : -1 ≤ sortOf w ∧ sortOf w ≤ 14 := by
  unfold sortOf
  repeat' first
    | decide
    | apply ite_b
theorem wordP_ok {t : Int → Int} {T B p : Int} {x : Int × Int × Int} (h : wordP t T B p = .ok x) (hp : p ≤ T) : (wOK B x.1 x.2.1 ∧ sortAt t T p ≠ -1) ∧ p ≤ x.2.2 ∧ x.2.2 ≤ T := by
  have hb := enx_b (t := t) hp
  have hs : -1 ≤ sortAt t T p ∧ sortAt t T p ≤ 14 := by
    unfold sortAt
    split
    · exact sortOf_b _
    · decide
  unfold wordP at h
  by_cases a : sortAt t T p = -1
  · rw [if_pos a] at h; cases h
  · rw [if_neg a] at h
    by_cases b : sortAt t T p < 12
    · rw [if_pos b] at h; cases h
      refine ⟨⟨⟨⟨by dsimp only; omega, by dsimp only; omega⟩, Or.inl ⟨b, rfl⟩⟩, a⟩, by dsimp only; omega, by dsimp only; omega⟩
    · rw [if_neg b] at h
      by_cases c : sortAt t T p = 14
      · rw [if_pos c] at h
        cases n1 : numP t T 0 (B - 1) (enx t T p) with
        | error y => rw [n1] at h; cases h
        | ok y =>
          rw [n1] at h; cases h
          have y1 := numP_ok n1 (by omega)
          refine ⟨⟨⟨⟨by dsimp only; omega, by dsimp only; omega⟩, Or.inr (Or.inr ⟨c, by dsimp only; omega, by dsimp only; omega⟩)⟩, a⟩, by dsimp only; omega, by dsimp only; omega⟩
      · rw [if_neg c] at h
        cases n1 : numP t T 0 99 (enx t T p) with
        | error y => rw [n1] at h; cases h
        | ok y =>
          rw [n1] at h; cases h
          have y1 := numP_ok n1 (by omega)
          refine ⟨⟨⟨⟨by dsimp only; omega, by dsimp only; omega⟩, Or.inr (Or.inl ⟨by dsimp only; omega, by dsimp only; omega, by dsimp only; omega, by dsimp only; omega⟩)⟩, a⟩, by dsimp only; omega, by dsimp only; omega⟩
def aR (R : Nat → Int → Int) : Prop := ∀ i : Int, 0 ≤ i → i < R 0 3 → wOK (R 0 0) (R 1 (2 * i)) (R 1 (2 * i + 1))
def sR (R : Nat → Int → Int) : Prop := ∀ i : Int, 0 ≤ i → i < R 0 4 → wOK (R 0 0) (R 2 (4 * i)) (R 2 (4 * i + 1)) ∧ wOK (R 0 0) (R 2 (4 * i + 2)) (R 2 (4 * i + 3))
def tR (R : Nat → Int → Int) : Prop := ∀ i : Int, 0 ≤ i → i < R 0 5 → 0 ≤ R 3 i ∧ R 3 i < R 0 2
def gR (R : Nat → Int → Int) : Prop := ((2 ≤ R 0 0 ∧ R 0 0 ≤ 16) ∧ (1 ≤ R 0 1 ∧ R 0 1 ≤ 8) ∧ (R 0 2 = R 0 0 ^ (R 0 1).toNat ∧ R 0 2 ≤ 10000) ∧ (0 ≤ R 0 3 ∧ R 0 3 ≤ 12) ∧ (0 ≤ R 0 4 ∧ R 0 4 ≤ 6) ∧ (0 ≤ R 0 5 ∧ R 0 5 ≤ 20) ∧ (R 4 0 = 0 → R 0 3 = 0)) ∧ aR R ∧ sR R ∧ tR R
def GR (ln : Int) (R : Nat → Int → Int) : Prop := (ln = 0 → (R 0 0 = 0 ∧ R 0 1 = 0 ∧ R 0 2 = 0 ∧ R 0 3 = 0 ∧ R 0 4 = 0 ∧ R 0 5 = 0) ∧ R 4 0 = 0) ∧ (ln ≠ 0 → gR R)
theorem doP_ok {t : Int → Int} {T : Int} : ∀ (n : Nat) (R : Nat → Int → Int) (p : Int) (x : (Nat → Int → Int) × Int), doP t T n R p = .ok x → p ≤ T → 0 ≤ R 0 3 → R 0 3 ≤ 12 → aR R →
    ((∀ z, z ≠ 3 → x.1 0 z = R 0 z) ∧ x.1 2 = R 2 ∧ x.1 3 = R 3 ∧ x.1 4 = R 4) ∧ (0 ≤ x.1 0 3 ∧ x.1 0 3 ≤ 12) ∧ aR x.1 ∧ p ≤ x.2 ∧ x.2 ≤ T := by
  intro n
  induction n with
  | zero =>
    intro R p x h hp h0 h1 ha
    have e : doP t T 0 R p = .ok (R, p) := rfl
    rw [e] at h; cases h
    exact ⟨⟨fun _ _ => rfl, rfl, rfl, rfl⟩, ⟨h0, h1⟩, ha, Int.le_refl _, hp⟩
  | succ n ih =>
    intro R p x h hp h0 h1 ha
    by_cases c : R 0 3 = 12 ∧ sortAt t T p ≠ -1
    · have e : doP t T (n + 1) R p = .error (3, plc t T p) := if_pos c
      rw [e] at h; cases h
    · have en : doP t T (n + 1) R p = match wordP t T (R 0 0) p with
        | .error e => .error e
        | .ok (s, v, q) => if knd t T q = 1 then doP t T n (rU (rU (rU R 1 (2 * R 0 3) s) 1 (2 * R 0 3 + 1) v) 0 3 (R 0 3 + 1)) q else .ok (rU (rU (rU R 1 (2 * R 0 3) s) 1 (2 * R 0 3 + 1) v) 0 3 (R 0 3 + 1), q) := if_neg c
      rw [en] at h
      cases hw : wordP t T (R 0 0) p with
      | error y => rw [hw] at h; cases h
      | ok y =>
        rw [hw] at h
        have yk := wordP_ok hw hp
        have c12 : R 0 3 < 12 := by
          by_cases e : R 0 3 = 12
          · exact absurd ⟨e, yk.1.2⟩ c
          · omega
        obtain ⟨s, v, q⟩ := y
        dsimp only at h yk
        have hR' : ∀ R', R' = rU (rU (rU R 1 (2 * R 0 3) s) 1 (2 * R 0 3 + 1) v) 0 3 (R 0 3 + 1) → ((∀ z, z ≠ 3 → R' 0 z = R 0 z) ∧ R' 2 = R 2 ∧ R' 3 = R 3 ∧ R' 4 = R 4) ∧ R' 0 3 = R 0 3 + 1 ∧ aR R' := fun R' e => by
          have e0 : R' 0 = upI (R 0) 3 (R 0 3 + 1) := by rw [e, rU_s, rU_n _ _ _ (by decide), rU_n _ _ _ (by decide)]
          have e1 : R' 1 = upI (upI (R 1) (2 * R 0 3) s) (2 * R 0 3 + 1) v := by rw [e, rU_n _ _ _ (by decide), rU_s, rU_s]
          refine ⟨⟨fun z hz => by rw [e0, upI_n _ _ hz], ?_, ?_, ?_⟩, by rw [e0, upI_s], fun i i0 i1 => ?_⟩
          · rw [e, rU_n _ _ _ (by decide), rU_n _ _ _ (by decide), rU_n _ _ _ (by decide)]
          · rw [e, rU_n _ _ _ (by decide), rU_n _ _ _ (by decide), rU_n _ _ _ (by decide)]
          · rw [e, rU_n _ _ _ (by decide), rU_n _ _ _ (by decide), rU_n _ _ _ (by decide)]
          · rw [e0, upI_s] at i1
            rw [e0, e1, upI_n _ _ (by decide)]
            by_cases d : i = R 0 3
            · subst d
              rw [upI_n _ _ (by omega), upI_s, upI_s]
              exact yk.1.1
            · rw [upI_n _ _ (by omega), upI_n _ _ (by omega), upI_n _ _ (by omega), upI_n _ _ (by omega)]
              exact ha i i0 (by omega)
        have hr := hR' _ rfl
        generalize rU (rU (rU R 1 (2 * R 0 3) s) 1 (2 * R 0 3 + 1) v) 0 3 (R 0 3 + 1) = R' at h hr
        by_cases k : knd t T q = 1
        · rw [if_pos k] at h
          have hi := ih R' q x h yk.2.2 (by omega) (by omega) hr.2.2
          exact ⟨⟨fun z hz => (hi.1.1 z hz).trans (hr.1.1 z hz), hi.1.2.1.trans hr.1.2.1, hi.1.2.2.1.trans hr.1.2.2.1, hi.1.2.2.2.trans hr.1.2.2.2⟩, hi.2.1, hi.2.2.1, by omega, hi.2.2.2.2⟩
        · rw [if_neg k] at h
          cases h
          exact ⟨hr.1, ⟨by dsimp only; omega, by dsimp only; omega⟩, hr.2.2, yk.2.1, yk.2.2⟩
theorem pwN_pow {b : Int} (h0 : 0 ≤ b) (h1 : b ≤ 16) : ∀ n : Nat, pwN b n ≤ 10000 → pwN b n = b ^ n := by
  intro n
  induction n with
  | zero => intro _; show (1 : Int) = b ^ 0; rw [Int.pow_zero]
  | succ n ih =>
    intro h
    have e := pwN_s b (k := (n : Int)) (by omega)
    have e1 : ((n : Int) + 1).toNat = n + 1 := by omega
    have e2 : (n : Int).toNat = n := by omega
    rw [e1, e2] at e
    by_cases c : pwN b n ≤ 10000
    · rw [if_pos c] at e
      rw [e, ih c, Int.pow_succ]
    · rw [if_neg c] at e; omega
theorem firstP_ok {t : Int → Int} {T p : Int} {R : Nat → Int → Int} {x : (Nat → Int → Int) × Int} (h : firstP t T R p = .ok x) (hp : p ≤ T) (hR : GR 0 R) : gR x.1 ∧ p ≤ x.2 ∧ x.2 ≤ T := by
  unfold firstP at h
  cases n1 : needP t T 10650290 p with
  | error y => rw [n1] at h; cases h
  | ok p1 =>
    rw [n1] at h; dsimp only at h
    have k1 := needP_ok n1 hp
    cases n2 : needP t T 40613 p1 with
    | error y => rw [n2] at h; cases h
    | ok p2 =>
      rw [n2] at h; dsimp only at h
      have k2 := needP_ok n2 k1.2.2
      cases n3 : numP t T 2 16 p2 with
      | error y => rw [n3] at h; cases h
      | ok y =>
        obtain ⟨b, p3⟩ := y
        rw [n3] at h; dsimp only at h
        have k3 := numP_ok n3 k2.2.2
        dsimp only at k3
        cases n4 : needP t T 247516 p3 with
        | error y => rw [n4] at h; cases h
        | ok p4 =>
          rw [n4] at h; dsimp only at h
          have k4 := needP_ok n4 k3.2.2
          by_cases c : knd t T p4 = 2 ∧ (1 ≤ vlu t T p4 ∧ vlu t T p4 ≤ 8) ∧ 10000 < pwN b (vlu t T p4).toNat
          · rw [if_pos c] at h; cases h
          · rw [if_neg c] at h
            cases n5 : numP t T 1 8 p4 with
            | error y => rw [n5] at h; cases h
            | ok y =>
              obtain ⟨l, p5⟩ := y
              rw [n5] at h; dsimp only at h
              have k5 := numP_ok n5 k4.2.2
              dsimp only at k5
              cases h
              have z0 := (hR.1 rfl).1
              have hl : pwN b l.toNat ≤ 10000 := by
                have e := k5.1.2.1
                by_cases d : pwN b l.toNat ≤ 10000
                · exact d
                · exact absurd ⟨k5.1.1, ⟨by omega, by omega⟩, by rw [← e]; omega⟩ c
              refine ⟨?_, by dsimp only; omega, by dsimp only; omega⟩
              have e0 : (rU (rU (rU R 0 0 b) 0 1 l) 0 2 (pwN b l.toNat)) 0 = upI (upI (upI (R 0) 0 b) 1 l) 2 (pwN b l.toNat) := by rw [rU_s, rU_s, rU_s]
              have e4 : (rU (rU (rU R 0 0 b) 0 1 l) 0 2 (pwN b l.toNat)) 4 = R 4 := by rw [rU_n _ _ _ (by decide), rU_n _ _ _ (by decide), rU_n _ _ _ (by decide)]
              dsimp only
              generalize rU (rU (rU R 0 0 b) 0 1 l) 0 2 (pwN b l.toNat) = R' at e0 e4
              have w0 : R' 0 0 = b := by rw [e0, upI_n _ _ (by decide), upI_n _ _ (by decide), upI_s]
              have w1 : R' 0 1 = l := by rw [e0, upI_n _ _ (by decide), upI_s]
              have w2 : R' 0 2 = pwN b l.toNat := by rw [e0, upI_s]
              have w3 : R' 0 3 = 0 := by rw [e0, upI_n _ _ (by decide), upI_n _ _ (by decide), upI_n _ _ (by decide)]; exact z0.2.2.2.1
              have w4 : R' 0 4 = 0 := by rw [e0, upI_n _ _ (by decide), upI_n _ _ (by decide), upI_n _ _ (by decide)]; exact z0.2.2.2.2.1
              have w5 : R' 0 5 = 0 := by rw [e0, upI_n _ _ (by decide), upI_n _ _ (by decide), upI_n _ _ (by decide)]; exact z0.2.2.2.2.2
              refine ⟨⟨⟨by omega, by omega⟩, ⟨by omega, by omega⟩, ⟨by rw [w2, w0, w1]; exact pwN_pow (by omega) (by omega) _ hl, by rw [w2]; exact hl⟩, ⟨by omega, by omega⟩, ⟨by omega, by omega⟩, ⟨by omega, by omega⟩, fun _ => w3⟩, fun i i0 i1 => by omega, fun i i0 i1 => by omega, fun i i0 i1 => by omega⟩
theorem lineP_ok {t : Int → Int} {T p : Int} {R : Nat → Int → Int} {x : (Nat → Int → Int) × Int} (h : lineP t T R p = .ok x) (hp : p ≤ T) (hR : gR R) : gR x.1 ∧ p ≤ x.2 ∧ x.2 ≤ T := by
  have hb := enx_b (t := t) hp
  obtain ⟨⟨g0, g1, g2, g3, g4, g5, g6⟩, ga, gs, gt⟩ := hR
  unfold lineP at h
  by_cases a : knd t T p = 1 ∧ wrd t T p = 2427955
  · rw [if_pos a] at h
    by_cases b : R 4 0 ≠ 0
    · rw [if_pos b] at h; cases h
    · rw [if_neg b] at h
      have e0 : (rU R 4 0 1) 0 = R 0 := rU_n _ _ _ (by decide)
      have k := doP_ok 13 _ _ _ h hb.2.1 (by rw [e0]; omega) (by rw [e0]; omega) (fun i i0 i1 => by rw [e0, rU_n _ _ _ (by decide)]; rw [e0] at i1; exact ga i i0 i1)
      obtain ⟨⟨k0, k2, k3, k4⟩, k5, ka, kp, kq⟩ := k
      have q0 := k0 0 (by decide)
      have q1 := k0 1 (by decide)
      have q2 := k0 2 (by decide)
      have q4 := k0 4 (by decide)
      have q5 := k0 5 (by decide)
      rw [e0] at q0 q1 q2 q4 q5
      rw [rU_n _ _ _ (by decide)] at k2 k3
      refine ⟨⟨⟨?_, ?_, ?_, k5, ?_, ?_, ?_⟩, ka, fun i i0 i1 => ?_, fun i i0 i1 => ?_⟩, by omega, kq⟩
      · rw [q0]; exact g0
      · rw [q1]; exact g1
      · rw [q2, q0, q1]; exact g2
      · rw [q4]; exact g4
      · rw [q5]; exact g5
      · rw [k4, rU_s, upI_s]; intro z; exact absurd z (by decide)
      · rw [q4] at i1; rw [q0, k2]; exact gs i i0 i1
      · rw [q5] at i1; rw [q2, k3]; exact gt i i0 i1
  · rw [if_neg a] at h
    by_cases a2 : knd t T p = 1 ∧ wrd t T p = 382984
    · rw [if_pos a2] at h
      by_cases b : R 0 4 = 6
      · rw [if_pos b] at h; cases h
      · rw [if_neg b] at h
        unfold slipP at h
        cases n1 : wordP t T (R 0 0) (enx t T p) with
        | error y => rw [n1] at h; cases h
        | ok y =>
          obtain ⟨s, v, q⟩ := y
          rw [n1] at h; dsimp only at h
          have k1 := wordP_ok n1 hb.2.1
          dsimp only at k1
          cases n2 : needP t T 4797 q with
          | error y => rw [n2] at h; cases h
          | ok q1 =>
            rw [n2] at h; dsimp only at h
            have k2 := needP_ok n2 k1.2.2
            cases n3 : wordP t T (R 0 0) q1 with
            | error y => rw [n3] at h; cases h
            | ok y =>
              obtain ⟨s2, v2, q2⟩ := y
              rw [n3] at h; dsimp only at h
              have k3 := wordP_ok n3 k2.2.2
              dsimp only at k3
              cases h
              refine ⟨?_, by dsimp only; omega, by dsimp only; omega⟩
              have e0 : (rU (rU (rU (rU (rU R 2 (4 * R 0 4) s) 2 (4 * R 0 4 + 1) v) 2 (4 * R 0 4 + 2) s2) 2 (4 * R 0 4 + 3) v2) 0 4 (R 0 4 + 1)) 0 = upI (R 0) 4 (R 0 4 + 1) := by rw [rU_s, rU_n _ _ _ (by decide), rU_n _ _ _ (by decide), rU_n _ _ _ (by decide), rU_n _ _ _ (by decide)]
              have e2 : (rU (rU (rU (rU (rU R 2 (4 * R 0 4) s) 2 (4 * R 0 4 + 1) v) 2 (4 * R 0 4 + 2) s2) 2 (4 * R 0 4 + 3) v2) 0 4 (R 0 4 + 1)) 2 = upI (upI (upI (upI (R 2) (4 * R 0 4) s) (4 * R 0 4 + 1) v) (4 * R 0 4 + 2) s2) (4 * R 0 4 + 3) v2 := by rw [rU_n _ _ _ (by decide), rU_s, rU_s, rU_s, rU_s]
              have e1 : (rU (rU (rU (rU (rU R 2 (4 * R 0 4) s) 2 (4 * R 0 4 + 1) v) 2 (4 * R 0 4 + 2) s2) 2 (4 * R 0 4 + 3) v2) 0 4 (R 0 4 + 1)) 1 = R 1 := by rw [rU_n _ _ _ (by decide), rU_n _ _ _ (by decide), rU_n _ _ _ (by decide), rU_n _ _ _ (by decide), rU_n _ _ _ (by decide)]
              have e3 : (rU (rU (rU (rU (rU R 2 (4 * R 0 4) s) 2 (4 * R 0 4 + 1) v) 2 (4 * R 0 4 + 2) s2) 2 (4 * R 0 4 + 3) v2) 0 4 (R 0 4 + 1)) 3 = R 3 := by rw [rU_n _ _ _ (by decide), rU_n _ _ _ (by decide), rU_n _ _ _ (by decide), rU_n _ _ _ (by decide), rU_n _ _ _ (by decide)]
              have e4 : (rU (rU (rU (rU (rU R 2 (4 * R 0 4) s) 2 (4 * R 0 4 + 1) v) 2 (4 * R 0 4 + 2) s2) 2 (4 * R 0 4 + 3) v2) 0 4 (R 0 4 + 1)) 4 = R 4 := by rw [rU_n _ _ _ (by decide), rU_n _ _ _ (by decide), rU_n _ _ _ (by decide), rU_n _ _ _ (by decide), rU_n _ _ _ (by decide)]
              dsimp only
              generalize rU (rU (rU (rU (rU R 2 (4 * R 0 4) s) 2 (4 * R 0 4 + 1) v) 2 (4 * R 0 4 + 2) s2) 2 (4 * R 0 4 + 3) v2) 0 4 (R 0 4 + 1) = R' at e0 e1 e2 e3 e4
              have q0 : R' 0 0 = R 0 0 := by rw [e0, upI_n _ _ (by decide)]
              have q1 : R' 0 1 = R 0 1 := by rw [e0, upI_n _ _ (by decide)]
              have q2 : R' 0 2 = R 0 2 := by rw [e0, upI_n _ _ (by decide)]
              have q3 : R' 0 3 = R 0 3 := by rw [e0, upI_n _ _ (by decide)]
              have q4 : R' 0 4 = R 0 4 + 1 := by rw [e0, upI_s]
              have q5 : R' 0 5 = R 0 5 := by rw [e0, upI_n _ _ (by decide)]
              refine ⟨⟨?_, ?_, ?_, ?_, ⟨by omega, by omega⟩, ?_, ?_⟩, fun i i0 i1 => ?_, fun i i0 i1 => ?_, fun i i0 i1 => ?_⟩
              · rw [q0]; exact g0
              · rw [q1]; exact g1
              · rw [q2, q0, q1]; exact g2
              · rw [q3]; exact g3
              · rw [q5]; exact g5
              · rw [e4, q3]; exact g6
              · rw [q3] at i1; rw [q0, e1]; exact ga i i0 i1
              · rw [q4] at i1; rw [q0, e2]
                by_cases d : i = R 0 4
                · subst d
                  rw [upI_n _ _ (by omega), upI_n _ _ (by omega), upI_n _ _ (by omega), upI_s, upI_n _ _ (by omega), upI_n _ _ (by omega), upI_s, upI_n _ _ (by omega), upI_s, upI_s]
                  exact ⟨k1.1.1, k3.1.1⟩
                · rw [upI_n _ _ (by omega), upI_n _ _ (by omega), upI_n _ _ (by omega), upI_n _ _ (by omega), upI_n _ _ (by omega), upI_n _ _ (by omega), upI_n _ _ (by omega), upI_n _ _ (by omega), upI_n _ _ (by omega), upI_n _ _ (by omega), upI_n _ _ (by omega), upI_n _ _ (by omega), upI_n _ _ (by omega), upI_n _ _ (by omega), upI_n _ _ (by omega), upI_n _ _ (by omega)]
                  exact gs i i0 (by omega)
              · rw [q5] at i1; rw [q2, e3]; exact gt i i0 i1
    · rw [if_neg a2] at h
      by_cases a3 : knd t T p = 1 ∧ wrd t T p = 212302449
      · rw [if_pos a3] at h
        by_cases b : R 0 5 = 20
        · rw [if_pos b] at h; cases h
        · rw [if_neg b] at h
          cases n1 : numP t T 0 (R 0 2 - 1) (enx t T p) with
          | error y => rw [n1] at h; cases h
          | ok y =>
            obtain ⟨v, q⟩ := y
            rw [n1] at h; dsimp only at h
            have k1 := numP_ok n1 hb.2.1
            dsimp only at k1
            cases h
            refine ⟨?_, by dsimp only; omega, by dsimp only; omega⟩
            have e0 : (rU (rU R 3 (R 0 5) v) 0 5 (R 0 5 + 1)) 0 = upI (R 0) 5 (R 0 5 + 1) := by rw [rU_s, rU_n _ _ _ (by decide)]
            have e3 : (rU (rU R 3 (R 0 5) v) 0 5 (R 0 5 + 1)) 3 = upI (R 3) (R 0 5) v := by rw [rU_n _ _ _ (by decide), rU_s]
            have e1 : (rU (rU R 3 (R 0 5) v) 0 5 (R 0 5 + 1)) 1 = R 1 := by rw [rU_n _ _ _ (by decide), rU_n _ _ _ (by decide)]
            have e2 : (rU (rU R 3 (R 0 5) v) 0 5 (R 0 5 + 1)) 2 = R 2 := by rw [rU_n _ _ _ (by decide), rU_n _ _ _ (by decide)]
            have e4 : (rU (rU R 3 (R 0 5) v) 0 5 (R 0 5 + 1)) 4 = R 4 := by rw [rU_n _ _ _ (by decide), rU_n _ _ _ (by decide)]
            dsimp only
            generalize rU (rU R 3 (R 0 5) v) 0 5 (R 0 5 + 1) = R' at e0 e1 e2 e3 e4
            have q0 : R' 0 0 = R 0 0 := by rw [e0, upI_n _ _ (by decide)]
            have q1 : R' 0 1 = R 0 1 := by rw [e0, upI_n _ _ (by decide)]
            have q2 : R' 0 2 = R 0 2 := by rw [e0, upI_n _ _ (by decide)]
            have q3 : R' 0 3 = R 0 3 := by rw [e0, upI_n _ _ (by decide)]
            have q4 : R' 0 4 = R 0 4 := by rw [e0, upI_n _ _ (by decide)]
            have q5 : R' 0 5 = R 0 5 + 1 := by rw [e0, upI_s]
            refine ⟨⟨?_, ?_, ?_, ?_, ?_, ⟨by omega, by omega⟩, ?_⟩, fun i i0 i1 => ?_, fun i i0 i1 => ?_, fun i i0 i1 => ?_⟩
            · rw [q0]; exact g0
            · rw [q1]; exact g1
            · rw [q2, q0, q1]; exact g2
            · rw [q3]; exact g3
            · rw [q4]; exact g4
            · rw [e4, q3]; exact g6
            · rw [q3] at i1; rw [q0, e1]; exact ga i i0 i1
            · rw [q4] at i1; rw [q0, e2]; exact gs i i0 i1
            · rw [q5] at i1; rw [q2, e3]
              by_cases d : i = R 0 5
              · rw [d, upI_s]; exact ⟨by omega, by omega⟩
              · rw [upI_n _ _ d]; exact gt i i0 (by omega)
      · rw [if_neg a3] at h; cases h
