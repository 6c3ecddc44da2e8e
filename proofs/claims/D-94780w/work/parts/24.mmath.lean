/-! the mathematics of figures and words, on -/
set_option maxRecDepth 100000
theorem asc_in {f g : Int → Int} {L lo hi : Int} (h : ascOf f g L) (hf : ∀ i : Int, 0 ≤ i → i < L → lo ≤ f i ∧ f i < hi) : ∀ i : Int, 0 ≤ i → i < L → lo ≤ g i ∧ g i < hi := by
  intro i h0 h1
  have h2 := cnt_at (g := g) (i := i) L.toNat h0 (by omega)
  rw [h.2] at h2
  obtain ⟨j, a, b, c⟩ := cnt_pos _ h2
  have := hf j a (by omega)
  omega
theorem upv_eq {h g : Int → Int} {x : Int} (t : tOK h) (ha : ascOf (dig (h 0) (h 1) x) g (h 1)) : hor (h 0) g (h 1).toNat = upv (h 0) (h 1) x := by
  have hL := tOK_L t
  have := srt_eq (lo := 0) hL.1 ha (fun i a b => (dig_in' t i a b).1)
  exact hor_c _ (fun i a b => this i a (by omega))
theorem dnv_eq {h g : Int → Int} {x : Int} (t : tOK h) (ha : ascOf (dig (h 0) (h 1) x) g (h 1)) : hor (h 0) (fun i => g (h 1 - 1 - i)) (h 1).toNat = dnv (h 0) (h 1) x := by
  have hL := tOK_L t
  have := srt_eq (lo := 0) hL.1 ha (fun i a b => (dig_in' t i a b).1)
  exact hor_c _ (fun i a b => this _ (by omega) (by omega))
theorem hor_down {h f : Int → Int} (t : tOK h) (hf : ∀ i : Int, 0 ≤ i → i < h 1 → 0 ≤ f i ∧ f i < h 0) {k : Int} (h0 : 0 ≤ k) (h1 : k < h 1) : i32 (i32 (hor (h 0) (fun i => f (h 1 - 1 - i)) (h 1 - 1 - k).toNat * h 0) + f k) = hor (h 0) (fun i => f (h 1 - 1 - i)) (h 1 - 1 - (k + -1)).toNat := by
  have e := hor_step (f := fun i => f (h 1 - 1 - i)) t (fun i a b => hf _ (by omega) (by omega)) (k := h 1 - 1 - k) (by omega) (by omega)
  rw [show h 1 - 1 - (h 1 - 1 - k) = k by omega] at e
  rw [e, show h 1 - 1 - (k + -1) = h 1 - 1 - k + 1 by omega]
theorem hor_rot {h f : Int → Int} (t : tOK h) (hf : ∀ i : Int, 0 ≤ i → i < h 1 → 0 ≤ f i ∧ f i < h 0) {k : Int} (h0 : 1 ≤ k) (h1 : k ≤ h 1) : i32 (i32 (hor (h 0) (fun i => f ((i + 1) % h 1)) (k - 1).toNat * h 0) + f (k % h 1)) = hor (h 0) (fun i => f ((i + 1) % h 1)) (k + 1 - 1).toNat := by
  have e := hor_step (f := fun i => f ((i + 1) % h 1)) t (fun i a b => hf _ (Int.emod_nonneg _ (by omega)) (Int.emod_lt_of_pos _ (by omega))) (k := k - 1) (by omega) (by omega)
  rw [show k - 1 + 1 = k by omega] at e
  rw [e, show k + 1 - 1 = k by omega]
theorem mul_b {a b m n : Int} (h1 : 0 ≤ a) (h2 : a ≤ m) (h3 : 0 ≤ b) (h4 : b ≤ n) : 0 ≤ a * b ∧ a * b ≤ m * n :=
  ⟨Int.mul_nonneg h1 h3, Int.mul_le_mul h2 h4 h3 (by omega)⟩
theorem pw1 (x : Int) : x ^ 1 = x := by rw [Int.pow_succ, Int.pow_zero, Int.one_mul]
theorem pw2 (x : Int) : x ^ 2 = x * x := by rw [Int.pow_succ, pw1]
theorem pw3 (x : Int) : x ^ 3 = x * x * x := by rw [Int.pow_succ, pw2]
theorem pw_b {x : Int} (h1 : 0 ≤ x) (h2 : x < 16) {p : Nat} (hp : p = 1 ∨ p = 2 ∨ p = 3) : 0 ≤ x ^ p ∧ x ^ p ≤ 3375 := by
  have a := mul_b (a := x) (b := x) (m := 15) (n := 15) h1 (by omega) h1 (by omega)
  have b := mul_b (a := x * x) (b := x) (m := 15 * 15) (n := 15) a.1 a.2 h1 (by omega)
  rcases hp with rfl | rfl | rfl
  · rw [pw1]; omega
  · rw [pw2]; omega
  · rw [pw3]; omega
theorem psum_b {f : Int → Int} {p : Nat} (hp : p = 1 ∨ p = 2 ∨ p = 3) : ∀ n : Nat, (∀ i : Int, 0 ≤ i → i < n → 0 ≤ f i ∧ f i < 16) → 0 ≤ psum p f n ∧ psum p f n ≤ 3375 * n
  | 0, _ => by unfold psum; omega
  | n + 1, h => by
    have ih := psum_b hp n (fun i a b => h i a (by omega))
    have h2 := h n (by omega) (by omega)
    have h3 := pw_b h2.1 h2.2 hp
    unfold psum; omega
theorem psum_s (p : Nat) (f : Int → Int) {k : Int} (h : 0 ≤ k) : psum p f (k + 1).toNat = psum p f k.toNat + f k ^ p := by
  rw [show (k + 1).toNat = k.toNat + 1 by omega]
  show _ + f (k.toNat : Int) ^ p = _
  rw [show ((k.toNat : Nat) : Int) = k by omega]
theorem psum_step {f : Int → Int} {p : Nat} (hp : p = 1 ∨ p = 2 ∨ p = 3) {L k : Int} (hL : L ≤ 8) (hf : ∀ i : Int, 0 ≤ i → i < L → 0 ≤ f i ∧ f i < 16) (h0 : 0 ≤ k) (h1 : k < L) {v : Int} (hv : v = f k ^ p) : i32 (psum p f k.toNat + v) = psum p f (k + 1).toNat := by
  have a := psum_b hp (f := f) k.toNat (fun i a b => hf i a (by omega))
  have b := hf k h0 h1
  have c := pw_b b.1 b.2 hp
  rw [psum_s p f h0, hv]
  exact i32_id (by omega) (by omega)
theorem lof_b {B d : Int} {f : Int → Int} (hB : 0 < B) : ∀ n : Nat, (∀ i : Int, 0 ≤ i → i < n → 0 ≤ f i ∧ f i < B) → 0 ≤ lof B d f n ∧ lof B d f n < B ^ n
  | 0, _ => by unfold lof; simp
  | n + 1, h => by
    have ih := lof_b (d := d) hB n (fun i h0 h1 => h i h0 (by omega))
    have h2 := h n (by omega) (by omega)
    unfold lof
    rw [Int.pow_succ]
    have h3 : lof B d f n * B ≤ (B ^ n - 1) * B := Int.mul_le_mul_of_nonneg_right (by omega) (by omega)
    have h4 : 0 ≤ lof B d f n * B := Int.mul_nonneg ih.1 (by omega)
    have h5 : lof B d f n * 1 ≤ lof B d f n * B := Int.mul_le_mul_of_nonneg_left (by omega) ih.1
    rw [Int.sub_mul] at h3
    split <;> omega
theorem lof_s (B d : Int) (f : Int → Int) {k : Int} (h : 0 ≤ k) : lof B d f (k + 1).toNat = if f k = d then lof B d f k.toNat else lof B d f k.toNat * B + f k := by
  rw [show (k + 1).toNat = k.toNat + 1 by omega]
  show (if f (k.toNat : Int) = d then _ else _ * B + f (k.toNat : Int)) = _
  rw [show ((k.toNat : Nat) : Int) = k by omega]
theorem lof_ub {h f : Int → Int} {d : Int} (t : tOK h) (hf : ∀ i : Int, 0 ≤ i → i < h 1 → 0 ≤ f i ∧ f i < h 0) {n : Nat} (hn : n ≤ h 1) : 0 ≤ lof (h 0) d f n ∧ lof (h 0) d f n ≤ 10000 := by
  by_cases h0 : n = 0
  · subst h0; unfold lof; omega
  · have hB := tOK_B2 t (by omega)
    have h1 := lof_b (B := h 0) (d := d) (f := f) (by omega) n (fun i a b => hf i a (by omega))
    have hL := tOK_L t
    have h2 := pow_mono' (B := h 0) (by omega) (show n ≤ (h 1).toNat by omega)
    have h3 := tOK_N t
    have h4 : h 2 = h 0 ^ (h 1).toNat := by rcases t with t | t <;> omega
    omega
theorem lof_step {h f : Int → Int} {d : Int} (t : tOK h) (hf : ∀ i : Int, 0 ≤ i → i < h 1 → 0 ≤ f i ∧ f i < h 0) {k : Int} (h0 : 0 ≤ k) (h1 : k < h 1) (hd : ¬ f k = d) : i32 (i32 (lof (h 0) d f k.toNat * h 0) + f k) = lof (h 0) d f (k + 1).toNat := by
  have h2 := lof_ub (d := d) t hf (n := k.toNat) (by omega)
  have hB := tOK_B t
  have h3 := mulb h2.1 h2.2 hB.1 hB.2
  have h4 := hf k h0 h1
  rw [i32_id (x := lof (h 0) d f k.toNat * h 0) (by omega) (by omega), i32_id (by omega) (by omega), lof_s _ _ _ h0, if_neg hd]
theorem lof_skip {B d : Int} {f : Int → Int} {k : Int} (h0 : 0 ≤ k) (hd : f k = d) : lof B d f k.toNat = lof B d f (k + 1).toNat := by
  rw [lof_s _ _ _ h0, if_pos hd]
theorem i32_p2 {d : Int} (h1 : 0 ≤ d) (h2 : d < 16) : i32 (d * d) = d ^ 2 := by
  have := pw_b h1 h2 (p := 2) (by omega)
  rw [← pw2]; exact i32_id (by omega) (by omega)
theorem i32_p3 {d : Int} (h1 : 0 ≤ d) (h2 : d < 16) : i32 (i32 (d * d) * d) = d ^ 3 := by
  have := pw_b h1 h2 (p := 3) (by omega)
  rw [i32_p2 h1 h2, pw2, ← pw3]; exact i32_id (by omega) (by omega)
theorem i32_m {k L : Int} (h1 : 0 ≤ k) (h2 : 0 < L) (h3 : L < 100000) : i32 (Int.tmod k L) = k % L ∧ 0 ≤ k % L ∧ k % L < L := by
  have a := Int.emod_nonneg k (b := L) (by omega)
  have b := Int.emod_lt_of_pos k h2
  rw [tmod_n h1, i32_s a (by omega)]
  exact ⟨rfl, a, b⟩
theorem SO_k {f g : Int → Int} {L n v : Int} (h : SO f L g n v 0) : ∀ k : Nat, k ≤ L → ∃ g' n', SO f L g' n' v k
  | 0, _ => ⟨g, n, h⟩
  | k + 1, hk => by
    obtain ⟨g', n', h'⟩ := SO_k h k (by omega)
    by_cases e : f k = v
    · exact ⟨_, _, SO_hit h' (by omega) e⟩
    · exact ⟨_, _, SO_skip h' (by omega) e⟩
theorem SO_v {f : Int → Int} {L : Int} (hL : 0 ≤ L) (hf : ∀ i : Int, 0 ≤ i → i < L → 0 ≤ f i) : ∀ v : Nat, ∃ g n, SO f L g n v 0
  | 0 => ⟨f, 0, SO_0 hL hf⟩
  | v + 1 => by
    obtain ⟨g, n, h⟩ := SO_v hL hf v
    obtain ⟨g', n', h'⟩ := SO_k h L.toNat (by omega)
    rw [show ((L.toNat : Nat) : Int) = L by omega] at h'
    exact ⟨g', n', SO_row h'⟩
theorem srt_asc {f : Int → Int} {L B : Int} (hL : 0 ≤ L) (hf : ∀ i : Int, 0 ≤ i → i < L → 0 ≤ f i ∧ f i < B) : ascOf f (srt f L) L := by
  obtain ⟨g, n, h⟩ := SO_v hL (fun i a b => (hf i a b).1) B.toNat
  exact Classical.epsilon_spec (p := fun g => ascOf f g L) ⟨g, SO_end h (fun i a b => by have := hf i a b; omega)⟩
theorem upv_b {h : Int → Int} {x : Int} (t : tOK h) : 0 ≤ upv (h 0) (h 1) x ∧ upv (h 0) (h 1) x ≤ 10000 :=
  hor_s t (asc_in (srt_asc (tOK_L t).1 (dig_in' t)) (dig_in' t)) (by have := tOK_L t; omega)
theorem dnv_b {h : Int → Int} {x : Int} (t : tOK h) : 0 ≤ dnv (h 0) (h 1) x ∧ dnv (h 0) (h 1) x ≤ 10000 :=
  hor_s t (fun i a b => asc_in (srt_asc (tOK_L t).1 (dig_in' t)) (dig_in' t) _ (by omega) (by omega)) (by have := tOK_L t; omega)
theorem trn_b {h : Int → Int} {x : Int} (t : tOK h) : 0 ≤ trn (h 0) (h 1) x ∧ trn (h 0) (h 1) x ≤ 10000 :=
  hor_s t (fun i a b => dig_in' t _ (by omega) (by omega)) (by have := tOK_L t; omega)
theorem rot_b {h : Int → Int} {x : Int} (t : tOK h) : 0 ≤ rot (h 0) (h 1) x ∧ rot (h 0) (h 1) x ≤ 10000 :=
  hor_s t (fun i a b => dig_in' t _ (Int.emod_nonneg _ (by omega)) (Int.emod_lt_of_pos _ (by omega))) (by have := tOK_L t; omega)
theorem psd_b {h : Int → Int} {x : Int} {p : Nat} (t : tOK h) (hp : p = 1 ∨ p = 2 ∨ p = 3) : 0 ≤ psum p (dig (h 0) (h 1) x) (h 1).toNat ∧ psum p (dig (h 0) (h 1) x) (h 1).toNat ≤ 27000 := by
  have hL := tOK_L t
  have hB := tOK_B t
  have := psum_b (f := dig (h 0) (h 1) x) hp (h 1).toNat (fun i a b => by have := dig_in' (x := x) t i a (by omega); omega)
  omega
theorem lod_b {h : Int → Int} {x d : Int} (t : tOK h) : 0 ≤ lof (h 0) d (dig (h 0) (h 1) x) (h 1).toNat ∧ lof (h 0) d (dig (h 0) (h 1) x) (h 1).toNat ≤ 10000 :=
  lof_ub t (dig_in' t) (by have := tOK_L t; omega)
theorem i32_tm {v N : Int} (h1 : 0 ≤ v) (h2 : v < 2147483648) (h3 : 0 < N) : i32 (Int.tmod v N) = v % N := by
  have a := Int.emod_nonneg v (b := N) (by omega)
  have b := Int.emod_lt_of_pos v h3
  have c : v % N ≤ v := by
    by_cases q : v < N
    · rw [Int.emod_eq_of_lt h1 q]; omega
    · omega
  rw [tmod_n h1, i32_s a (by omega)]
theorem wdo_b {h : Int → Int} {kp x w n : Int} (h2 : 0 < h 2) : 0 ≤ wdo h kp x w n ∧ wdo h kp x w n < h 2 := ⟨Int.emod_nonneg _ (by omega), Int.emod_lt_of_pos _ h2⟩
theorem wkp_b {kp x w N : Int} (h1 : 0 ≤ kp ∧ kp < N) (h2 : 0 ≤ x ∧ x < N) : 0 ≤ wkp kp x w ∧ wkp kp x w < N := by unfold wkp; split <;> assumption
theorem wdo_0 (h : Int → Int) (kp x n : Int) : wdo h kp x 0 n = dnv (h 0) (h 1) x % h 2 := rfl
theorem wdo_1 (h : Int → Int) (kp x n : Int) : wdo h kp x 1 n = upv (h 0) (h 1) x % h 2 := rfl
theorem wdo_2 (h : Int → Int) (kp x n : Int) : wdo h kp x 2 n = trn (h 0) (h 1) x % h 2 := rfl
theorem wdo_3 (h : Int → Int) (kp x n : Int) : wdo h kp x 3 n = x % h 2 := rfl
theorem wdo_4 (h : Int → Int) (kp x n : Int) : wdo h kp x 4 n = kp % h 2 := rfl
theorem wdo_5 (h : Int → Int) (kp x n : Int) : wdo h kp x 5 n = (if kp < x then x - kp else kp - x) % h 2 := rfl
theorem wdo_6 (h : Int → Int) (kp x n : Int) : wdo h kp x 6 n = (x + kp) % h 2 := rfl
theorem wdo_7 (h : Int → Int) (kp x n : Int) : wdo h kp x 7 n = psum 2 (dig (h 0) (h 1) x) (h 1).toNat % h 2 := rfl
theorem wdo_8 (h : Int → Int) (kp x n : Int) : wdo h kp x 8 n = psum 3 (dig (h 0) (h 1) x) (h 1).toNat % h 2 := rfl
theorem wdo_9 (h : Int → Int) (kp x n : Int) : wdo h kp x 9 n = psum 1 (dig (h 0) (h 1) x) (h 1).toNat % h 2 := rfl
theorem wdo_10 (h : Int → Int) (kp x n : Int) : wdo h kp x 10 n = (if x % 2 = 0 then x / 2 else x) % h 2 := rfl
theorem wdo_11 (h : Int → Int) (kp x n : Int) : wdo h kp x 11 n = rot (h 0) (h 1) x % h 2 := rfl
theorem wdo_12 (h : Int → Int) (kp x n : Int) : wdo h kp x 12 n = (x * n) % h 2 := rfl
theorem wdo_13 (h : Int → Int) (kp x n : Int) : wdo h kp x 13 n = (x + n) % h 2 := rfl
theorem wdo_14 (h : Int → Int) (kp x n : Int) : wdo h kp x 14 n = lof (h 0) n (dig (h 0) (h 1) x) (h 1).toNat % h 2 := rfl
theorem i32_mul {x n : Int} (h1 : 0 ≤ x) (h2 : x < 100000) (h3 : 0 ≤ n) (h4 : n ≤ 99) : i32 (x * n) = x * n ∧ 0 ≤ x * n ∧ x * n < 2147483648 := by
  have := mul_b h1 (show x ≤ 99999 by omega) h3 h4
  exact ⟨i32_id (by omega) (by omega), by omega, by omega⟩
theorem i32_tm2 {v N : Int} (h1 : 0 ≤ v) (h2 : v < 2147483648) (h3 : 0 < N) : i32 (Int.tmod (i32 v) N) = v % N := by
  rw [i32_s h1 h2]; exact i32_tm h1 h2 h3
theorem i32_hv {x : Int} (h : 0 ≤ x) : i32 (Int.tmod x 2) = x % 2 := by
  have a := Int.emod_nonneg x (b := 2) (by omega)
  have b := Int.emod_lt_of_pos x (b := 2) (by omega)
  rw [tmod_n h, i32_s a (by omega)]
