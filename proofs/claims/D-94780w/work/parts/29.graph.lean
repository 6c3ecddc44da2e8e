/-! THE MATHEMATICS of goes: iterates, rounds -/
set_option maxRecDepth 100000
def it (g : Int → Int) (x : Int) : Nat → Int
  | 0 => x
  | n + 1 => g (it g x n)
def rng (g : Int → Int) (N : Int) : Prop := ∀ x : Int, 0 ≤ x → x < N → 0 ≤ g x ∧ g x < N
def cyc (g : Int → Int) (y : Int) : Prop := ∃ m : Nat, 0 < m ∧ it g y m = y
def leastOf (p : Nat → Prop) (n : Nat) : Prop := p n ∧ ∀ m, m < n → ¬ p m
theorem leastOf_ex {p : Nat → Prop} : ∀ n : Nat, p n → ∃ m, leastOf p m ∧ m ≤ n := by
  intro n
  induction n using Nat.strongRecOn with
  | ind n ih =>
    intro h
    by_cases q : ∃ m, m < n ∧ p m
    · obtain ⟨m, h1, h2⟩ := q
      obtain ⟨k, h3, h4⟩ := ih m h1 h2
      exact ⟨k, h3, by omega⟩
    · exact ⟨n, ⟨h, fun m h1 h2 => q ⟨m, h1, h2⟩⟩, Nat.le_refl _⟩
theorem leastOf_u {p : Nat → Prop} {m n : Nat} (h1 : leastOf p m) (h2 : leastOf p n) : m = n := by
  rcases Nat.lt_trichotomy m n with q | q | q
  · exact absurd h1.1 (h2.2 m q)
  · exact q
  · exact absurd h2.1 (h1.2 n q)
noncomputable def theLeast (p : Nat → Prop) : Nat := Classical.epsilon (leastOf p)
theorem theLeast_eq {p : Nat → Prop} {n : Nat} (h : leastOf p n) : theLeast p = n := leastOf_u (Classical.epsilon_spec (p := leastOf p) ⟨n, h⟩) h
theorem theLeast_of {p : Nat → Prop} {n : Nat} (h : p n) : leastOf p (theLeast p) ∧ theLeast p ≤ n := by
  obtain ⟨m, h1, h2⟩ := leastOf_ex n h
  rw [theLeast_eq h1]; exact ⟨h1, h2⟩
/-- how many goes till a round -/
noncomputable def tl (g : Int → Int) (x : Int) : Int := theLeast (fun n => cyc g (it g x n))
/-- how many a round has; 0 of what is on none -/
noncomputable def rg (g : Int → Int) (x : Int) : Int := by
  classical exact if cyc g x then (theLeast (fun n => 0 < n ∧ it g x n = x) : Int) else 0
/-- the least on the round -/
def isHm (g : Int → Int) (x m : Int) : Prop := (∃ n, m = it g x n ∧ cyc g m) ∧ ∀ n, cyc g (it g x n) → m ≤ it g x n
noncomputable def hm (g : Int → Int) (x : Int) : Int := Classical.epsilon (isHm g x)
theorem isHm_u {g : Int → Int} {x m n : Int} (h1 : isHm g x m) (h2 : isHm g x n) : m = n := by
  obtain ⟨⟨a, rfl, b⟩, c⟩ := h1
  obtain ⟨⟨a', rfl, b'⟩, c'⟩ := h2
  have := c _ b'
  have := c' _ b
  omega
theorem hm_eq {g : Int → Int} {x m : Int} (h : isHm g x m) : hm g x = m := isHm_u (Classical.epsilon_spec (p := isHm g x) ⟨m, h⟩) h
theorem it_a (g : Int → Int) (x : Int) (m : Nat) : ∀ n : Nat, it g x (m + n) = it g (it g x m) n
  | 0 => rfl
  | n + 1 => by rw [← Nat.add_assoc]; show g _ = g _; rw [it_a g x m n]
theorem it_1 (g : Int → Int) (x : Int) (n : Nat) : it g (g x) n = it g x (n + 1) := by
  rw [Nat.add_comm]; exact (it_a g x 1 n).symm
theorem it_b {g : Int → Int} {N x : Int} (hg : rng g N) (h0 : 0 ≤ x) (h1 : x < N) : ∀ n, 0 ≤ it g x n ∧ it g x n < N
  | 0 => ⟨h0, h1⟩
  | n + 1 => by have := it_b hg h0 h1 n; exact hg _ this.1 this.2
theorem it_c {f g : Int → Int} {N x : Int} (hg : rng g N) (he : ∀ z : Int, 0 ≤ z → z < N → f z = g z) (h0 : 0 ≤ x) (h1 : x < N) : ∀ n, it f x n = it g x n
  | 0 => rfl
  | n + 1 => by
    have := it_b hg h0 h1 n
    show f (it f x n) = g (it g x n)
    rw [it_c hg he h0 h1 n, he _ this.1 this.2]
theorem it_mul {g : Int → Int} {y : Int} {m : Nat} (h : it g y m = y) : ∀ k : Nat, it g y (m * k) = y
  | 0 => rfl
  | k + 1 => by rw [Nat.mul_succ, it_a, it_mul h k, h]
theorem cyc_n {g : Int → Int} {y : Int} (h : cyc g y) (n : Nat) : cyc g (it g y n) := by
  obtain ⟨m, h1, h2⟩ := h
  refine ⟨m, h1, ?_⟩
  rw [← it_a, Nat.add_comm, it_a, h2]
/-- from a round's number back to where one came from on it -/
theorem cyc_back {g : Int → Int} {y : Int} (h : cyc g y) (n : Nat) : ∃ k, it g (it g y n) k = y := by
  obtain ⟨m, h1, h2⟩ := h
  refine ⟨m * (n + 1) - n, ?_⟩
  rw [← it_a, show n + (m * (n + 1) - n) = m * (n + 1) by
    have : n + 1 ≤ m * (n + 1) := Nat.le_mul_of_pos_left _ h1
    omega]
  exact it_mul h2 _
/-! pigeons -/
theorem cnt_upd {g : Int → Int} {i x v : Int} {n : Nat} (h0 : 0 ≤ i) (h1 : i < n) : cnt (upI g i x) v n = cnt g v n - (if g i = v then 1 else 0) + (if x = v then 1 else 0) := by
  induction n with
  | zero => omega
  | succ n ih =>
    rw [cnt_s, cnt_s]
    by_cases e : i = n
    · subst e
      rw [cnt_c (g := g) n (fun j a b => upI_n g x (by omega)), upI_s]; omega
    · rw [ih (by omega), upI_n g x (by omega)]; omega
theorem pigeon {N : Int} (hN : 0 ≤ N) {f : Nat → Int} : ∀ n : Nat, (∀ i, i < n → 0 ≤ f i ∧ f i < N) → (∀ i j, i < j → j < n → f i ≠ f j) → ∃ m : Int → Int, cnt m 1 N.toNat = n ∧ ∀ z, m z = 1 → ∃ i, i < n ∧ f i = z
  | 0, _, _ => ⟨fun _ => 0, cnt_0 _ (fun i a b => by omega), fun z h => by simp at h⟩
  | n + 1, h, hd => by
    obtain ⟨m, h1, h2⟩ := pigeon hN n (fun i a => h i (by omega)) (fun i j a b => hd i j a (by omega))
    have hb := h n (by omega)
    have hn : ¬ m (f n) = 1 := fun e => by
      obtain ⟨i, a, b⟩ := h2 _ e
      exact hd i n a (by omega) b
    refine ⟨upI m (f n) 1, ?_, fun z hz => ?_⟩
    · rw [cnt_upd hb.1 (by omega), h1, if_neg hn, if_pos rfl]; omega
    · by_cases e : z = f n
      · exact ⟨n, by omega, e.symm⟩
      · rw [upI_n m 1 e] at hz
        obtain ⟨i, a, b⟩ := h2 z hz
        exact ⟨i, by omega, b⟩
theorem pigeon_le {N : Int} (hN : 0 ≤ N) {f : Nat → Int} {n : Nat} (h : ∀ i, i < n → 0 ≤ f i ∧ f i < N) (hd : ∀ i j, i < j → j < n → f i ≠ f j) : (n : Int) ≤ N := by
  obtain ⟨m, h1, _⟩ := pigeon hN n h hd
  have := cnt_le m 1 N.toNat
  omega
theorem cyc_ex {g : Int → Int} {N x : Int} (hg : rng g N) (h0 : 0 ≤ x) (h1 : x < N) : ∃ n : Nat, n < N ∧ cyc g (it g x n) := by
  have hc : ¬ ∀ i j, i < j → j < N.toNat + 1 → it g x i ≠ it g x j := fun h => by
    have := pigeon_le (N := N) (by omega) (f := it g x) (n := N.toNat + 1) (fun i _ => it_b hg h0 h1 i) h
    omega
  obtain ⟨i, hc⟩ := Classical.not_forall.mp hc
  obtain ⟨j, hc⟩ := Classical.not_forall.mp hc
  have hc := Classical.not_imp.mp hc
  have hc2 := Classical.not_imp.mp hc.2
  have e := Classical.not_not.mp hc2.2
  refine ⟨i, by omega, j - i, by omega, ?_⟩
  rw [← it_a, show i + (j - i) = j by omega, ← e]
theorem tl_sp {g : Int → Int} {N x : Int} (hg : rng g N) (h0 : 0 ≤ x) (h1 : x < N) : (0 ≤ tl g x ∧ tl g x < N) ∧ cyc g (it g x (tl g x).toNat) ∧ ∀ n : Nat, n < tl g x → ¬ cyc g (it g x n) := by
  obtain ⟨n, h2, h3⟩ := cyc_ex hg h0 h1
  have h4 := theLeast_of (p := fun n => cyc g (it g x n)) h3
  unfold tl
  refine ⟨⟨by omega, by omega⟩, h4.1.1, fun m hm => h4.1.2 m (by omega)⟩
theorem tl_eq {g : Int → Int} {x : Int} {n : Nat} (h1 : cyc g (it g x n)) (h2 : ∀ m, m < n → ¬ cyc g (it g x m)) : tl g x = n := by
  unfold tl; rw [theLeast_eq ⟨h1, h2⟩]
theorem tl_0 {g : Int → Int} {x : Int} (h : cyc g x) : tl g x = 0 := tl_eq (n := 0) h (fun m hm => by omega)
theorem rg_0 {g : Int → Int} {x : Int} (h : ¬ cyc g x) : rg g x = 0 := by unfold rg; exact if_neg h
theorem rg_eq {g : Int → Int} {x : Int} {n : Nat} (h0 : 0 < n) (h1 : it g x n = x) (h2 : ∀ m, 0 < m → m < n → it g x m ≠ x) : rg g x = n := by
  unfold rg
  rw [if_pos ⟨n, h0, h1⟩, theLeast_eq (n := n) ⟨⟨h0, h1⟩, fun m hm hq => h2 m hq.1 hm hq.2⟩]
theorem rg_sp {g : Int → Int} {x : Int} (h : cyc g x) : 0 < rg g x ∧ it g x (rg g x).toNat = x ∧ ∀ m : Nat, 0 < m → m < rg g x → it g x m ≠ x := by
  obtain ⟨m, h1, h2⟩ := h
  have h4 := theLeast_of (p := fun n => 0 < n ∧ it g x n = x) (n := m) ⟨h1, h2⟩
  unfold rg
  rw [if_pos ⟨m, h1, h2⟩]
  refine ⟨by have := h4.1.1.1; omega, h4.1.1.2, fun k a b c => h4.1.2 k (by omega) ⟨a, c⟩⟩
theorem rg_d {g : Int → Int} {x : Int} (h : cyc g x) : ∀ i j : Nat, i < j → j < rg g x → it g x i ≠ it g x j := by
  intro i j hij hj e
  have hs := rg_sp h
  have e2 : it g x ((rg g x).toNat - j + i) = x := by
    rw [Nat.add_comm, it_a, e, ← it_a, show j + ((rg g x).toNat - j) = (rg g x).toNat by omega]; exact hs.2.1
  exact hs.2.2 _ (by omega) (by omega) e2
theorem rg_le {g : Int → Int} {N x : Int} (hg : rng g N) (h0 : 0 ≤ x) (h1 : x < N) (h : cyc g x) : rg g x ≤ N := by
  have hs := rg_sp h
  have := pigeon_le (N := N) (by omega) (f := it g x) (n := (rg g x).toNat) (fun i _ => it_b hg h0 h1 i) (fun i j a b => rg_d h i j a (by omega))
  omega
/-- on one round all are alike -/
theorem it_mod {g : Int → Int} {x : Int} (h : cyc g x) (n : Nat) : it g x n = it g x (n % (rg g x).toNat) := by
  have hs := rg_sp h
  have e := Nat.div_add_mod n (rg g x).toNat
  rw [← e, it_a, it_mul hs.2.1, Nat.mul_add_mod, Nat.mod_mod]
theorem rg_n {g : Int → Int} {x : Int} (h : cyc g x) (n : Nat) : rg g (it g x n) = rg g x := by
  have hs := rg_sp h
  obtain ⟨k, hk⟩ := cyc_back h n
  have e := rg_eq (g := g) (x := it g x n) (n := (rg g x).toNat) (by omega) (by rw [← it_a, Nat.add_comm, it_a, hs.2.1]) (fun m h0 h1 h2 => by
    apply hs.2.2 m h0 (by omega)
    have : it g (it g (it g x n) m) k = x := by rw [h2, hk]
    rw [← it_a, Nat.add_comm, it_a, hk] at this; exact this)
  rw [e]; omega
theorem hm_n {g : Int → Int} {x : Int} {m : Int} (n : Nat) (h : isHm g x m) : isHm g (it g x n) m := by
  obtain ⟨⟨k, rfl, b⟩, c⟩ := h
  refine ⟨?_, fun j hj => ?_⟩
  · by_cases q : n ≤ k
    · exact ⟨k - n, by rw [← it_a, show n + (k - n) = k by omega], b⟩
    · obtain ⟨j, hj⟩ := cyc_back b (n - k)
      refine ⟨j, ?_, b⟩
      have e : it g x n = it g (it g x k) (n - k) := by rw [← it_a, show k + (n - k) = n by omega]
      rw [e]; exact hj.symm
  · rw [← it_a] at hj ⊢; exact c _ hj
theorem hm_ex {g : Int → Int} {N x : Int} (hg : rng g N) (h0 : 0 ≤ x) (h1 : x < N) : isHm g x (hm g x) := by
  obtain ⟨n, _, h3⟩ := cyc_ex hg h0 h1
  have ex := theLeast_of (p := fun v : Nat => ∃ n, (v : Int) = it g x n ∧ cyc g (v : Int)) (n := (it g x n).toNat) (by
    have := it_b hg h0 h1 n
    have e : (((it g x n).toNat : Nat) : Int) = it g x n := by omega
    exact ⟨n, e, by rw [e]; exact h3⟩)
  have : isHm g x (theLeast (fun v : Nat => ∃ n, (v : Int) = it g x n ∧ cyc g (v : Int)) : Int) := by
    refine ⟨ex.1.1, fun j hj => ?_⟩
    have hb := it_b hg h0 h1 j
    by_cases q : (theLeast (fun v : Nat => ∃ n, (v : Int) = it g x n ∧ cyc g (v : Int)) : Int) ≤ it g x j
    · exact q
    · have e : (((it g x j).toNat : Nat) : Int) = it g x j := by omega
      exact absurd ⟨j, e, by rw [e]; exact hj⟩ (ex.1.2 (it g x j).toNat (by omega))
  rw [hm_eq this]; exact this
theorem hm_it {g : Int → Int} {N x : Int} (hg : rng g N) (h0 : 0 ≤ x) (h1 : x < N) (n : Nat) : hm g (it g x n) = hm g x := hm_eq (hm_n n (hm_ex hg h0 h1))
theorem hm_b {g : Int → Int} {N x : Int} (hg : rng g N) (h0 : 0 ≤ x) (h1 : x < N) : (0 ≤ hm g x ∧ hm g x < N) ∧ cyc g (hm g x) := by
  obtain ⟨⟨n, e, c⟩, _⟩ := hm_ex hg h0 h1
  have := it_b hg h0 h1 n
  exact ⟨by omega, c⟩
theorem tl_s {g : Int → Int} {N x : Int} (hg : rng g N) (h0 : 0 ≤ x) (h1 : x < N) (hx : ¬ cyc g x) : tl g x = tl g (g x) + 1 := by
  have hb := hg x h0 h1
  have hs := tl_sp hg hb.1 hb.2
  have e := tl_eq (g := g) (x := x) (n := (tl g (g x)).toNat + 1) (by rw [← it_1]; exact hs.2.1) (fun m hm => by
    cases m with
    | zero => exact hx
    | succ m => rw [← it_1]; exact hs.2.2 m (by omega))
  rw [e]; omega
