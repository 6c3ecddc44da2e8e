/-! TEXTS: tokens, the plain law -/
set_option maxRecDepth 100000
def isB (t : Int → Int) (T lo hi p : Int) : Prop := p < T ∧ lo ≤ t p ∧ t p ≤ hi
def isWs (t : Int → Int) (T p : Int) : Prop := isB t T 32 32 p ∨ isB t T 10 10 p
/-- the first from p on that is not so -/
noncomputable def adv (P : Int → Prop) (p : Int) : Int := p + theLeast (fun n : Nat => ¬ P (p + n))
theorem adv_n {P : Int → Prop} {p : Int} (h : ¬ P p) : adv P p = p := by
  unfold adv
  rw [theLeast_eq (n := 0) ⟨by show ¬ P (p + (0 : Nat)); rw [show p + ((0 : Nat) : Int) = p by omega]; exact h, fun m hm => by omega⟩]
  omega
theorem adv_y {P : Int → Prop} {p T : Int} (hT : ∀ q, P q → q < T) (h : P p) : adv P p = adv P (p + 1) := by
  have hx := theLeast_of (p := fun n : Nat => ¬ P (p + 1 + n)) (n := (T - p).toNat) (fun q => by have := hT _ q; omega)
  unfold adv
  rw [theLeast_eq (p := fun n : Nat => ¬ P (p + n)) (n := theLeast (fun n : Nat => ¬ P (p + 1 + n)) + 1) ⟨by
    have := hx.1.1
    show ¬ P (p + ((theLeast (fun n : Nat => ¬ P (p + 1 + n)) + 1 : Nat) : Int))
    rw [show p + ((theLeast (fun n : Nat => ¬ P (p + 1 + n)) + 1 : Nat) : Int) = p + 1 + (theLeast (fun n : Nat => ¬ P (p + 1 + n)) : Int) by omega]; exact this, fun m hm => by
    cases m with
    | zero => intro q; apply q; rw [show p + ((0 : Nat) : Int) = p by omega]; exact h
    | succ m =>
      have := hx.1.2 m (by omega)
      intro q; apply this; intro w; apply q
      rw [show p + ((m + 1 : Nat) : Int) = p + 1 + (m : Int) by omega]; exact w⟩]
  omega
theorem isWs_T {t : Int → Int} {T : Int} : ∀ q, isWs t T q → q < T := fun q h => h.elim (fun a => a.1) (fun a => a.1)
theorem isB_T {t : Int → Int} {T lo hi : Int} : ∀ q, isB t T lo hi q → q < T := fun q h => h.1
noncomputable def plc (t : Int → Int) (T p : Int) : Int := adv (isWs t T) p
/-- the number of a word's letters, the first n -/
def cw (t : Int → Int) (q : Int) : Nat → Int
  | 0 => 0
  | n + 1 => if 11 < n then -1 else 27 * cw t q n + t (q + n) - 96
def cv (t : Int → Int) (q : Int) : Nat → Int
  | 0 => 0
  | n + 1 => if 100000 < cv t q n then 1000000 else 10 * cv t q n + t (q + n) - 48
theorem cw_s (t : Int → Int) (q : Int) {n : Int} (h : 0 ≤ n) : cw t q (n + 1).toNat = if 11 < n then -1 else 27 * cw t q n.toNat + t (q + n) - 96 := by
  rw [show (n + 1).toNat = n.toNat + 1 by omega]
  show (if 11 < n.toNat then -1 else 27 * cw t q n.toNat + t (q + (n.toNat : Int)) - 96) = _
  rw [show ((n.toNat : Nat) : Int) = n by omega]
  by_cases w : 11 < n
  · rw [if_pos (by omega), if_pos w]
  · rw [if_neg (by omega), if_neg w]
theorem cv_s (t : Int → Int) (q : Int) {n : Int} (h : 0 ≤ n) : cv t q (n + 1).toNat = if 100000 < cv t q n.toNat then 1000000 else 10 * cv t q n.toNat + t (q + n) - 48 := by
  rw [show (n + 1).toNat = n.toNat + 1 by omega]
  show (if _ then _ else 10 * cv t q n.toNat + t (q + (n.toNat : Int)) - 48) = _
  rw [show ((n.toNat : Nat) : Int) = n by omega]
theorem cw_b {t : Int → Int} {q : Int} : ∀ n : Nat, n ≤ 12 → (∀ i : Nat, i < n → 97 ≤ t (q + i) ∧ t (q + i) ≤ 122) → 0 ≤ cw t q n ∧ cw t q n < 27 ^ n
  | 0, _, _ => by unfold cw; simp
  | n + 1, hn, h => by
    have ih := cw_b n (by omega) (fun i a => h i (by omega))
    have := h n (by omega)
    unfold cw
    rw [if_neg (by omega), Int.pow_succ]
    omega
theorem cv_b {t : Int → Int} {q : Int} : ∀ n : Nat, (∀ i : Nat, i < n → 48 ≤ t (q + i) ∧ t (q + i) ≤ 57) → 0 ≤ cv t q n ∧ cv t q n ≤ 1000009
  | 0, _ => by unfold cv; omega
  | n + 1, h => by
    have ih := cv_b n (fun i a => h i (by omega))
    have := h n (by omega)
    unfold cv; split <;> omega
noncomputable def knd (t : Int → Int) (T p : Int) : Int := by
  classical exact if plc t T p = T then 0 else if isB t T 97 122 (plc t T p) then 1 else if isB t T 48 57 (plc t T p) then 2 else if t (plc t T p) = 59 then 3 else 4
noncomputable def enx (t : Int → Int) (T p : Int) : Int := by
  classical exact if plc t T p = T then T else if isB t T 97 122 (plc t T p) then adv (isB t T 97 122) (plc t T p) else if isB t T 48 57 (plc t T p) then adv (isB t T 48 57) (plc t T p) else plc t T p + 1
noncomputable def wrd (t : Int → Int) (T p : Int) : Int := if knd t T p = 1 then cw t (plc t T p) (enx t T p - plc t T p).toNat else 0
noncomputable def vlu (t : Int → Int) (T p : Int) : Int := if knd t T p = 2 then cv t (plc t T p) (enx t T p - plc t T p).toNat else 0
/-- the four kinds of tokens -/
theorem tok_end {t : Int → Int} {T p q : Int} (e : plc t T p = q) (h : q = T) : knd t T p = 0 ∧ enx t T p = q ∧ wrd t T p = 0 ∧ vlu t T p = 0 := by
  have k : knd t T p = 0 := if_pos (by rw [e]; exact h)
  refine ⟨k, (if_pos (by rw [e]; exact h)).trans h.symm, ?_, ?_⟩
  · unfold wrd; rw [k]; rfl
  · unfold vlu; rw [k]; rfl
theorem tok_word {t : Int → Int} {T p q : Int} (e : plc t T p = q) (h : isB t T 97 122 q) : knd t T p = 1 ∧ enx t T p = adv (isB t T 97 122) q ∧ wrd t T p = cw t q (adv (isB t T 97 122) q - q).toNat ∧ vlu t T p = 0 := by
  have hn : ¬ plc t T p = T := by have := h.1; omega
  have k : knd t T p = 1 := (if_neg hn).trans (if_pos (by rw [e]; exact h))
  have k2 : enx t T p = adv (isB t T 97 122) q := by rw [← e]; exact (if_neg hn).trans (if_pos (by rw [e]; exact h))
  refine ⟨k, k2, ?_, ?_⟩
  · unfold wrd; rw [k, if_pos rfl, k2, e]
  · unfold vlu; rw [k]; rfl
theorem tok_num {t : Int → Int} {T p q : Int} (e : plc t T p = q) (h1 : ¬ isB t T 97 122 q) (h : isB t T 48 57 q) : knd t T p = 2 ∧ enx t T p = adv (isB t T 48 57) q ∧ vlu t T p = cv t q (adv (isB t T 48 57) q - q).toNat ∧ wrd t T p = 0 := by
  have hn : ¬ plc t T p = T := by have := h.1; omega
  have k : knd t T p = 2 := (if_neg hn).trans ((if_neg (by rw [e]; exact h1)).trans (if_pos (by rw [e]; exact h)))
  have k2 : enx t T p = adv (isB t T 48 57) q := by rw [← e]; exact (if_neg hn).trans ((if_neg (by rw [e]; exact h1)).trans (if_pos (by rw [e]; exact h)))
  refine ⟨k, k2, ?_, ?_⟩
  · unfold vlu; rw [k, if_pos rfl, k2, e]
  · unfold wrd; rw [k]; rfl
theorem tok_sign {t : Int → Int} {T p q : Int} (e : plc t T p = q) (h0 : q ≠ T) (h1 : ¬ isB t T 97 122 q) (h2 : ¬ isB t T 48 57 q) : (t q = 59 → knd t T p = 3) ∧ (¬ t q = 59 → knd t T p = 4) ∧ enx t T p = q + 1 ∧ wrd t T p = 0 ∧ vlu t T p = 0 := by
  have hn : ¬ plc t T p = T := by omega
  have kk : knd t T p = if t (plc t T p) = 59 then 3 else 4 := (if_neg hn).trans ((if_neg (by rw [e]; exact h1)).trans (if_neg (by rw [e]; exact h2)))
  rw [e] at kk
  have k2 : enx t T p = q + 1 := by rw [← e]; exact (if_neg hn).trans ((if_neg (by rw [e]; exact h1)).trans (if_neg (by rw [e]; exact h2)))
  refine ⟨fun h => by rw [kk, if_pos h], fun h => by rw [kk, if_neg h], k2, ?_, ?_⟩
  · unfold wrd; rw [kk, if_neg (by split <;> omega)]
  · unfold vlu; rw [kk, if_neg (by split <;> omega)]
/-- a base's power, as long as it is small -/
def pwN (b : Int) : Nat → Int
  | 0 => 1
  | n + 1 => if pwN b n ≤ 10000 then pwN b n * b else pwN b n
theorem pwN_s (b : Int) {k : Int} (h : 0 ≤ k) : pwN b (k + 1).toNat = if pwN b k.toNat ≤ 10000 then pwN b k.toNat * b else pwN b k.toNat := by
  rw [show (k + 1).toNat = k.toNat + 1 by omega]; rfl
theorem pwN_b {b : Int} (h0 : 0 ≤ b) (h1 : b ≤ 16) : ∀ n : Nat, 0 ≤ pwN b n ∧ pwN b n ≤ 160000
  | 0 => by unfold pwN; omega
  | n + 1 => by
    have ih := pwN_b h0 h1 n
    unfold pwN
    split
    · exact mulb ih.1 (by assumption) h0 h1
    · exact ih
theorem pwN_stop {b : Int} {n : Nat} (h : ¬ pwN b n ≤ 10000) : ∀ m : Nat, n ≤ m → pwN b m = pwN b n
  | 0, h1 => by rw [show n = 0 by omega]
  | m + 1, h1 => by
    by_cases e : n = m + 1
    · rw [e]
    · have ih := pwN_stop h m (by omega)
      show (if pwN b m ≤ 10000 then _ else pwN b m) = _
      rw [ih, if_neg h]
theorem pwN_step {b : Int} (h0 : 0 ≤ b) (h1 : b ≤ 16) {k : Int} (hk : 0 ≤ k) (h : pwN b k.toNat ≤ 10000) : i32 (pwN b k.toNat * b) = pwN b (k + 1).toNat := by
  have := pwN_b h0 h1 k.toNat
  have := mulb this.1 h h0 h1
  rw [pwN_s b hk, if_pos h]; exact i32_id (by omega) (by omega)
