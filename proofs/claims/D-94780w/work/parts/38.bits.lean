/-! sets of figures as bits -/
set_option maxRecDepth 100000
theorem jor_n {m n : Nat} (hm : m < 65536) (hn : n < 65536) : jor m n = ((m ||| n : Nat) : Int) := by
  have h := Nat.or_lt_two_pow (n := 16) (x := m) (y := n) (by omega) (by omega)
  unfold jor
  rw [← Int32.toInt_toBitVec, Int32.toBitVec_or, Int32.toBitVec_ofInt, Int32.toBitVec_ofInt, BitVec.ofInt_natCast, BitVec.ofInt_natCast, ← BitVec.ofNat_or, BitVec.toInt_eq_toNat_bmod, BitVec.toNat_ofNat, Nat.mod_eq_of_lt (by omega)]
  rw [Int.bmod_eq_of_le (by omega) (by omega)]
theorem jshl_n {f : Int} (h0 : 0 ≤ f) (h1 : f < 16) : jshl 1 f = ((2 ^ f.toNat : Nat) : Int) := by
  have h : f = 0 ∨ f = 1 ∨ f = 2 ∨ f = 3 ∨ f = 4 ∨ f = 5 ∨ f = 6 ∨ f = 7 ∨ f = 8 ∨ f = 9 ∨ f = 10 ∨ f = 11 ∨ f = 12 ∨ f = 13 ∨ f = 14 ∨ f = 15 := by omega
  rcases h with rfl | rfl | rfl | rfl | rfl | rfl | rfl | rfl | rfl | rfl | rfl | rfl | rfl | rfl | rfl | rfl <;> decide
def isBits (F : Int → Prop) (x : Int) : Prop := ∃ m : Nat, (x = m ∧ m < 65536) ∧ ∀ i : Nat, m.testBit i = true ↔ (i < 16 ∧ F i)
theorem isBits_u {F : Int → Prop} {x y : Int} (h : isBits F x) (h' : isBits F y) : x = y := by
  obtain ⟨m, ⟨rfl, _⟩, a⟩ := h
  obtain ⟨n, ⟨rfl, _⟩, b⟩ := h'
  have : m = n := Nat.eq_of_testBit_eq (fun i => by
    have := (a i).trans (b i).symm
    cases h1 : m.testBit i <;> cases h2 : n.testBit i
    · rfl
    · rw [h1, h2] at this; exact this.mpr rfl
    · rw [h1, h2] at this; exact (this.mp rfl).symm
    · rfl)
  rw [this]
noncomputable def bitsF (F : Int → Prop) : Int := Classical.epsilon (isBits F)
theorem bits_eq {F : Int → Prop} {x : Int} (h : isBits F x) : x = bitsF F := isBits_u h (Classical.epsilon_spec (p := isBits F) ⟨x, h⟩)
theorem isBits_0 {F : Int → Prop} (h : ∀ f : Int, 0 ≤ f → f < 16 → ¬ F f) : isBits F 0 := ⟨0, ⟨rfl, by decide⟩, fun i => by
  rw [Nat.zero_testBit]
  constructor
  · intro q; exact absurd q (by decide)
  · intro q; exact absurd q.2 (h i (by omega) (by omega))⟩
theorem isBits_s {F G : Int → Prop} {x f : Int} (h : isBits F x) (h0 : 0 ≤ f) (h1 : f < 16) (hG : ∀ g, G g ↔ (F g ∨ g = f)) : isBits G (jor x (jshl 1 f)) := by
  obtain ⟨m, ⟨rfl, b⟩, a⟩ := h
  have hp : (2 ^ f.toNat : Nat) < 65536 := by
    have := Nat.pow_lt_pow_right (a := 2) (by decide) (show f.toNat < 16 by omega)
    exact this
  rw [jshl_n h0 h1, jor_n b hp]
  refine ⟨_, ⟨rfl, Nat.or_lt_two_pow (n := 16) (by omega) (by omega)⟩, fun i => ?_⟩
  rw [Nat.testBit_or, Nat.testBit_two_pow, Bool.or_eq_true, a, decide_eq_true_iff, hG]
  constructor
  · rintro (⟨p, q⟩ | q)
    · exact ⟨p, Or.inl q⟩
    · exact ⟨by omega, Or.inr (by omega)⟩
  · rintro ⟨p, q | q⟩
    · exact Or.inl ⟨p, q⟩
    · exact Or.inr (by omega)
theorem isBits_e {F G : Int → Prop} {x : Int} (h : isBits F x) (hG : ∀ g, G g ↔ F g) : isBits G x := by
  rw [show G = F from funext fun g => propext (hG g)]; exact h
/-- a row's number without the one figure -/
def skp (B k : Int) (f : Int → Int) : Nat → Int
  | 0 => 0
  | n + 1 => if (n : Int) = k then skp B k f n else skp B k f n * B + f n
theorem skp_s (B d : Int) (f : Int → Int) {k : Int} (h : 0 ≤ k) : skp B d f (k + 1).toNat = if k = d then skp B d f k.toNat else skp B d f k.toNat * B + f k := by
  rw [show (k + 1).toNat = k.toNat + 1 by omega]
  show (if (k.toNat : Int) = d then _ else _ * B + f (k.toNat : Int)) = _
  rw [show ((k.toNat : Nat) : Int) = k by omega]
theorem skp_b {B d : Int} {f : Int → Int} (hB : 0 < B) : ∀ n : Nat, (∀ i : Int, 0 ≤ i → i < n → 0 ≤ f i ∧ f i < B) → 0 ≤ skp B d f n ∧ skp B d f n < B ^ n
  | 0, _ => by unfold skp; simp
  | n + 1, h => by
    have ih := skp_b (d := d) hB n (fun i h0 h1 => h i h0 (by omega))
    have h2 := h n (by omega) (by omega)
    unfold skp
    rw [Int.pow_succ]
    have h3 : skp B d f n * B ≤ (B ^ n - 1) * B := Int.mul_le_mul_of_nonneg_right (by omega) (by omega)
    have h4 : 0 ≤ skp B d f n * B := Int.mul_nonneg ih.1 (by omega)
    have h5 : skp B d f n * 1 ≤ skp B d f n * B := Int.mul_le_mul_of_nonneg_left (by omega) ih.1
    rw [Int.sub_mul] at h3
    split <;> omega
theorem skp_ub {h f : Int → Int} {d : Int} (t : tOK h) (hf : ∀ i : Int, 0 ≤ i → i < h 1 → 0 ≤ f i ∧ f i < h 0) {n : Nat} (hn : n ≤ h 1) : 0 ≤ skp (h 0) d f n ∧ skp (h 0) d f n ≤ 10000 := by
  by_cases h0 : n = 0
  · subst h0; unfold skp; omega
  · have hB := tOK_B2 t (by omega)
    have h1 := skp_b (B := h 0) (d := d) (f := f) (by omega) n (fun i a b => hf i a (by omega))
    have hL := tOK_L t
    have h2 := pow_mono' (B := h 0) (by omega) (show n ≤ (h 1).toNat by omega)
    have h3 := tOK_N t
    have h4 : h 2 = h 0 ^ (h 1).toNat := by rcases t with t | t <;> omega
    omega
theorem skp_step {h f : Int → Int} {d : Int} (t : tOK h) (hf : ∀ i : Int, 0 ≤ i → i < h 1 → 0 ≤ f i ∧ f i < h 0) {k : Int} (h0 : 0 ≤ k) (h1 : k < h 1) (hd : ¬ k = d) : i32 (i32 (skp (h 0) d f k.toNat * h 0) + f k) = skp (h 0) d f (k + 1).toNat := by
  have h2 := skp_ub (d := d) t hf (n := k.toNat) (by omega)
  have hB := tOK_B t
  have h3 := mulb h2.1 h2.2 hB.1 hB.2
  have h4 := hf k h0 h1
  rw [i32_id (x := skp (h 0) d f k.toNat * h 0) (by omega) (by omega), i32_id (by omega) (by omega), skp_s _ _ _ h0, if_neg hd]
theorem skp_skip {B d : Int} {f : Int → Int} {k : Int} (h0 : 0 ≤ k) (hd : k = d) : skp B d f k.toNat = skp B d f (k + 1).toNat := by
  rw [skp_s _ _ _ h0, if_pos hd]
/-- the figures that a number has where its others are told -/
def outZ (h : Int → Int) (o z : Int) (K f : Int) : Prop := ∃ k : Int, (0 ≤ k ∧ k < K) ∧ skp (h 0) k (dig (h 0) (h 1) z) (h 1).toNat = o ∧ dig (h 0) (h 1) z k = f
def outX (h : Int → Int) (P : Int → Prop) (o : Int) (X f : Int) : Prop := ∃ z : Int, (0 ≤ z ∧ z < X) ∧ P z ∧ outZ h o z (h 1) f
noncomputable def rOut (ln : Int) (h a td : Int → Int) (c n o : Int) : Int := if (0 < ln ∧ (0 ≤ c ∧ c ≤ 3) ∧ 0 ≤ n ∧ n ≤ 200) ∧ 0 ≤ o ∧ o ≤ h 2 / h 0 - 1 then bitsF (outX h (crS h a td c n.toNat) o (h 2)) else -2
theorem outZ_0 {h : Int → Int} {o z f : Int} : ¬ outZ h o z 0 f := fun ⟨k, a, _⟩ => by omega
theorem outZ_y {h : Int → Int} {o z K f : Int} (h0 : 0 ≤ K) (e : skp (h 0) K (dig (h 0) (h 1) z) (h 1).toNat = o) : outZ h o z (K + 1) f ↔ (outZ h o z K f ∨ f = dig (h 0) (h 1) z K) := by
  constructor
  · rintro ⟨k, a, b, c⟩
    by_cases q : k = K
    · subst q; exact Or.inr c.symm
    · exact Or.inl ⟨k, ⟨a.1, by omega⟩, b, c⟩
  · rintro (⟨k, a, b, c⟩ | q)
    · exact ⟨k, ⟨a.1, by omega⟩, b, c⟩
    · exact ⟨K, ⟨h0, by omega⟩, e, q.symm⟩
theorem outZ_n {h : Int → Int} {o z K f : Int} (e : ¬ skp (h 0) K (dig (h 0) (h 1) z) (h 1).toNat = o) : outZ h o z (K + 1) f ↔ outZ h o z K f := by
  constructor
  · rintro ⟨k, a, b, c⟩
    by_cases q : k = K
    · subst q; exact absurd b e
    · exact ⟨k, ⟨a.1, by omega⟩, b, c⟩
  · rintro ⟨k, a, b, c⟩; exact ⟨k, ⟨a.1, by omega⟩, b, c⟩
theorem outX_0 {h : Int → Int} {P : Int → Prop} {o f : Int} : ¬ outX h P o 0 f := fun ⟨z, a, _⟩ => by omega
theorem outX_n {h : Int → Int} {P : Int → Prop} {o X f : Int} (e : ¬ P X) : outX h P o (X + 1) f ↔ outX h P o X f := by
  constructor
  · rintro ⟨z, a, b, c⟩
    by_cases q : z = X
    · subst q; exact absurd b e
    · exact ⟨z, ⟨a.1, by omega⟩, b, c⟩
  · rintro ⟨z, a, b, c⟩; exact ⟨z, ⟨a.1, by omega⟩, b, c⟩
theorem outX_y {h : Int → Int} {P : Int → Prop} {o X f : Int} (h0 : 0 ≤ X) (e : P X) : outX h P o (X + 1) f ↔ (outX h P o X f ∨ outZ h o X (h 1) f) := by
  constructor
  · rintro ⟨z, a, b, c⟩
    by_cases q : z = X
    · subst q; exact Or.inr c
    · exact Or.inl ⟨z, ⟨a.1, by omega⟩, b, c⟩
  · rintro (⟨z, a, b, c⟩ | q)
    · exact ⟨z, ⟨a.1, by omega⟩, b, c⟩
    · exact ⟨X, ⟨h0, by omega⟩, e, q⟩
theorem outX_c {h : Int → Int} {P Q : Int → Prop} {o X f : Int} (e : ∀ z, P z ↔ Q z) : outX h P o X f ↔ outX h Q o X f := by rw [show P = Q from funext fun z => propext (e z)]
theorem i32_dv {N B : Int} (h0 : 0 ≤ N) (h1 : N ≤ 10000) (hB : 0 < B) : i32 (i32 (Int.tdiv N B) - 1) = N / B - 1 := by
  have a := Int.ediv_nonneg h0 (show 0 ≤ B by omega)
  have b := Int.ediv_le_self B h0
  rw [tdiv_n h0, i32_id (x := N / B) (by omega) (by omega), i32_id (by omega) (by omega)]
