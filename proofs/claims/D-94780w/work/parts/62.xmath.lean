/-! THE COMPONENT's FIGURES: turned, sorted by trading, joined -/
set_option maxRecDepth 100000
/-- the first L turned -/
def revF (L : Int) (f : Int → Int) : Int → Int := fun z => if 0 ≤ z ∧ z < L then f (L - 1 - z) else f z
/-- turned up to i from both ends -/
def revP (L i : Int) (f : Int → Int) : Int → Int := fun z => if (0 ≤ z ∧ z < i) ∨ (L - 1 - i < z ∧ z < L) then f (L - 1 - z) else f z
theorem revP_0 (L : Int) (f : Int → Int) : f = revP L 0 f := by
  funext z; unfold revP
  by_cases h : (0 ≤ z ∧ z < 0) ∨ (L - 1 - 0 < z ∧ z < L)
  · omega
  · rw [if_neg h]
theorem revP_end {L i : Int} {f : Int → Int} (h0 : 0 ≤ i) (h1 : L - 1 - i ≤ i) (h2 : i ≤ L - 1 - i + 2 ∨ i = 0) : revP L i f = revF L f := by
  funext z; unfold revP revF
  by_cases h : 0 ≤ z ∧ z < L
  · rw [if_pos h]
    by_cases g : (0 ≤ z ∧ z < i) ∨ (L - 1 - i < z ∧ z < L)
    · rw [if_pos g]
    · rw [if_neg g]; congr 1; omega
  · rw [if_neg h, if_neg (by omega)]
theorem revP_s {L i k : Int} {f : Int → Int} (hk : k = L - 1 - i) (h0 : 0 ≤ i) (h1 : i < k) : upI (upI (revP L i f) i (revP L i f k)) k (revP L i f i) = revP L (i + 1) f := by
  have e1 : revP L i f k = f k := if_neg (by omega)
  have e2 : revP L i f i = f i := if_neg (by omega)
  rw [e1, e2]
  funext z
  unfold upI
  by_cases a : z = k
  · rw [if_pos a, a]; unfold revP; rw [if_pos (by omega)]; congr 1; omega
  · rw [if_neg a]
    by_cases b : z = i
    · rw [if_pos b, b]; unfold revP; rw [if_pos (by omega)]; congr 1
    · rw [if_neg b]; unfold revP
      by_cases c : (0 ≤ z ∧ z < i) ∨ (L - 1 - i < z ∧ z < L)
      · rw [if_pos c, if_pos (by omega)]
      · rw [if_neg c, if_neg (by omega)]
theorem cnt_upI {f : Int → Int} {i x v : Int} : ∀ n : Nat, 0 ≤ i → i < n → cnt (upI f i x) v n + (if f i = v then 1 else 0) = cnt f v n + (if x = v then 1 else 0) := by
  intro n
  induction n with
  | zero => intro h0 h1; omega
  | succ n ih =>
    intro h0 h1
    rw [cnt_s, cnt_s]
    by_cases e : i = (n : Int)
    · subst e
      have e2 : cnt (upI f n x) v n = cnt f v n := cnt_c n (fun j j0 j1 => upI_n _ _ (by omega))
      rw [e2, upI_s]; omega
    · have := ih h0 (by omega)
      rw [upI_n (i := i) f x (by omega : (n : Int) ≠ i)]; omega
theorem cnt_swap {f : Int → Int} {i k v : Int} (n : Nat) (h0 : 0 ≤ i) (h1 : i < n) (h2 : 0 ≤ k) (h3 : k < n) (h4 : i ≠ k) : cnt (upI (upI f i (f k)) k (f i)) v n = cnt f v n := by
  have a := cnt_upI (f := f) (x := f k) (v := v) n h0 h1
  have b := cnt_upI (f := upI f i (f k)) (x := f i) (v := v) n h2 h3
  rw [upI_n _ _ h4.symm] at b
  omega
theorem cnt_0s {f : Int → Int} {v : Int} : ∀ n : Nat, cnt f v (n + 1) = (if f 0 = v then 1 else 0) + cnt (fun i => f (i + 1)) v n := by
  intro n
  induction n with
  | zero => rw [cnt_s]; show 0 + (if f (0 : Nat) = v then 1 else 0) = (if f 0 = v then 1 else 0) + 0; rw [Int.zero_add, Int.add_zero]; rfl
  | succ n ih =>
    rw [cnt_s, ih, cnt_s (fun i => f (i + 1)) v n]
    have e : f ((n + 1 : Nat) : Int) = f ((n : Int) + 1) := by congr 1
    rw [e]; omega
theorem cnt_rev {v : Int} : ∀ (n : Nat) (f : Int → Int), cnt (fun i => f (n - 1 - i)) v n = cnt f v n := by
  intro n
  induction n with
  | zero => intro f; rfl
  | succ n ih =>
    intro f
    rw [cnt_0s, cnt_s f v n, ← ih f]
    have e1 : f (((n + 1 : Nat) : Int) - 1 - 0) = f n := by congr 1; omega
    have e2 : cnt (fun i => f (((n + 1 : Nat) : Int) - 1 - (i + 1))) v n = cnt (fun i => f ((n : Int) - 1 - i)) v n := cnt_c n (fun i _ _ => by show f _ = f _; congr 1; omega)
    show (if f (((n + 1 : Nat) : Int) - 1 - 0) = v then 1 else 0) + cnt (fun i => f (((n + 1 : Nat) : Int) - 1 - (i + 1))) v n = _
    rw [e1, e2]; omega
/-- the greatest first -/
def dsc (f g : Int → Int) (L : Int) : Prop := (∀ a b : Int, 0 ≤ a → a < b → b < L → g b ≤ g a) ∧ (∀ v, cnt g v L.toNat = cnt f v L.toNat) ∧ ∀ z, z < 0 ∨ L ≤ z → g z = f z
/-- so but for what is at k, up to i -/
def dscP (f g : Int → Int) (L i k : Int) : Prop := (∀ a b : Int, 0 ≤ a → a < b → b ≤ i → b ≠ k → g b ≤ g a) ∧ (∀ v, cnt g v L.toNat = cnt f v L.toNat) ∧ ∀ z, z < 0 ∨ L ≤ z → g z = f z
theorem dscP_0 {f : Int → Int} {L : Int} : dscP f f L 0 (-1) := ⟨fun a b h0 h1 h2 _ => by omega, fun _ => rfl, fun _ _ => rfl⟩
/-- one more is to be taken in -/
theorem dscP_in {f g : Int → Int} {L i j : Int} (h : dscP f g L j (-1)) (hj : j = i - 1) : dscP f g L i i := ⟨fun a b h0 h1 h2 h3 => h.1 a b h0 h1 (by omega) (by omega), h.2⟩
/-- it is taken in -/
theorem dscP_out {f g : Int → Int} {L i j k : Int} (h : dscP f g L i k) (h1 : k ≤ 0 ∨ g k ≤ g (k - 1)) (hj : j = i) : dscP f g L j (-1) := by
  subst hj
  refine ⟨fun a b h0 h2 h3 h4 => ?_, h.2⟩
  by_cases e : b = k
  · subst e
    rcases h1 with h1 | h1
    · omega
    · by_cases e2 : a = b - 1
      · rw [e2]; exact h1
      · have := h.1 a (b - 1) h0 (by omega) (by omega) (by omega); omega
  · exact h.1 a b h0 h2 (by omega) e
theorem dscP_s {f g : Int → Int} {L i k : Int} (h : dscP f g L i k) (h0 : 0 < k) (h1 : k ≤ i) (hi : i < L) (hg : g (k - 1) < g k) : dscP f (upI (upI g k (g (k - 1))) (k - 1) (g k)) L i (k - 1) := by
  refine ⟨fun a b a0 ab bi bk => ?_, fun v => ?_, fun z hz => ?_⟩
  · rw [upI_n _ _ bk]
    by_cases e1 : b = k
    · subst e1
      rw [upI_s]
      by_cases e2 : a = b - 1
      · rw [e2, upI_s]; omega
      · rw [upI_n _ _ e2, upI_n _ _ (by omega)]; exact h.1 a (b - 1) a0 (by omega) (by omega) (by omega)
    · rw [upI_n _ _ e1]
      by_cases e2 : a = k - 1
      · rw [e2, upI_s]
        by_cases e3 : k < b
        · exact h.1 k b (by omega) e3 bi e1
        · omega
      · rw [upI_n _ _ e2]
        by_cases e3 : a = k
        · rw [e3, upI_s]; exact h.1 (k - 1) b (by omega) (by omega) bi e1
        · rw [upI_n _ _ e3]; exact h.1 a b a0 ab bi e1
  · rw [← h.2.1 v]; exact cnt_swap _ (by omega) (by omega) (by omega) (by omega) (by omega)
  · rw [upI_n _ _ (by omega), upI_n _ _ (by omega)]; exact h.2.2 z hz
theorem dscP_end {f g : Int → Int} {L i : Int} (h : dscP f g L i (-1)) (hi : L ≤ i + 1) : dsc f g L := ⟨fun a b h0 h1 h2 => h.1 a b h0 h1 (by omega) (by omega), h.2⟩
theorem dsc_asc {f g : Int → Int} {L : Int} (hL : 0 ≤ L) (h : dsc f g L) : ascOf f (fun i => g (L - 1 - i)) L := by
  refine ⟨fun i j h0 h1 h2 => ?_, fun v => ?_⟩
  · show g (L - 1 - i) ≤ g (L - 1 - j)
    by_cases e : i = j
    · rw [e]; exact Int.le_refl _
    · exact h.1 (L - 1 - j) (L - 1 - i) (by omega) (by omega) (by omega)
  · rw [← h.2.1 v]
    have e := cnt_rev (v := v) L.toNat g
    rw [show ((L.toNat : Nat) : Int) = L by omega] at e
    exact e
/-- joined in longs -/
theorem hor_l {h f : Int → Int} (t : tOK h) (hf : ∀ i : Int, 0 ≤ i → i < h 1 → 0 ≤ f i ∧ f i < h 0) {k : Int} (h0 : 0 ≤ k) (h1 : k < h 1) : i64 (i64 (h 0 * hor (h 0) f k.toNat) + f k) = hor (h 0) f (k + 1).toNat := by
  have hB := tOK_B t
  have hb := hor_s t hf (n := k.toNat) (by omega)
  have hm := mulb hb.1 hb.2 hB.1 hB.2
  have hfk := hf k h0 h1
  rw [show (k + 1).toNat = k.toNat + 1 by omega]
  show _ = hor (h 0) f k.toNat * h 0 + f (k.toNat : Int)
  rw [show ((k.toNat : Nat) : Int) = k by omega, Int.mul_comm (h 0) (hor (h 0) f k.toNat), i64_id (x := hor (h 0) f k.toNat * h 0) (by omega) (by omega), i64_id (by omega) (by omega)]
/-- the figures of what is joined -/
theorem dig_hor {h g : Int → Int} (t : tOK h) (hg : ∀ i : Int, 0 ≤ i → i < h 1 → 0 ≤ g i ∧ g i < h 0) {i : Int} (h0 : 0 ≤ i) (h1 : i < h 1) : dig (h 0) (h 1) (hor (h 0) g (h 1).toNat) i = g i := by
  have hB : 0 < h 0 := by have := hg i h0 h1; omega
  have key : ∀ m n : Nat, m < n → n ≤ h 1 → hor (h 0) g n / (h 0) ^ (n - 1 - m) % h 0 = g m := by
    intro m n
    induction n with
    | zero => intro a; omega
    | succ n ih =>
      intro a b
      show (hor (h 0) g n * h 0 + g (n : Int)) / (h 0) ^ (n + 1 - 1 - m) % h 0 = g m
      have gn := hg n (by omega) (by omega)
      by_cases e : m = n
      · subst e
        rw [show m + 1 - 1 - m = 0 by omega, Int.pow_zero, Int.ediv_one, Int.add_comm, Int.add_mul_emod_self_right, Int.emod_eq_of_lt gn.1 gn.2]
      · rw [show n + 1 - 1 - m = 1 + (n - 1 - m) by omega, Int.pow_add, Int.pow_succ, Int.pow_zero, Int.one_mul, ← Int.ediv_ediv_of_nonneg (by omega), Int.add_comm (hor (h 0) g n * h 0), Int.add_mul_ediv_right _ _ (by omega), Int.ediv_eq_zero_of_lt gn.1 gn.2, Int.zero_add]
        exact ih (by omega) (by omega)
  have k := key i.toNat (h 1).toNat (by omega) (by omega)
  rw [show ((i.toNat : Nat) : Int) = i by omega] at k
  unfold dig
  rw [show (h 1 - 1 - i).toNat = (h 1).toNat - 1 - i.toNat by omega]
  exact k
