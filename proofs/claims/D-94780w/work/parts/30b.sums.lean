/-! sums, first ones, greatest ones -/
set_option maxRecDepth 100000
def sumI (f : Int → Int) : Nat → Int
  | 0 => 0
  | n + 1 => sumI f n + f n
theorem sumI_s (f : Int → Int) {k : Int} (h : 0 ≤ k) : sumI f (k + 1).toNat = sumI f k.toNat + f k := by
  rw [show (k + 1).toNat = k.toNat + 1 by omega]
  show _ + f (k.toNat : Int) = _
  rw [show ((k.toNat : Nat) : Int) = k by omega]
theorem sumI_c {f g : Int → Int} : ∀ n : Nat, (∀ i : Int, 0 ≤ i → i < n → f i = g i) → sumI f n = sumI g n
  | 0, _ => rfl
  | n + 1, h => by
    show sumI f n + f n = sumI g n + g n
    rw [sumI_c n (fun i a b => h i a (by omega)), h n (by omega) (by omega)]
noncomputable def bC (p : Prop) : Int := by classical exact if p then 1 else 0
theorem bC_t {p : Prop} (h : p) : bC p = 1 := if_pos h
theorem bC_f {p : Prop} (h : ¬ p) : bC p = 0 := if_neg h
theorem bC_01 (p : Prop) : bC p = 0 ∨ bC p = 1 := by
  by_cases h : p
  · exact Or.inr (bC_t h)
  · exact Or.inl (bC_f h)
theorem bC_b (p : Prop) : 0 ≤ bC p ∧ bC p ≤ 1 := by rcases bC_01 p with h | h <;> omega
theorem sumI_b {f : Int → Int} : ∀ n : Nat, (∀ i : Int, 0 ≤ i → i < n → 0 ≤ f i ∧ f i ≤ 1) → 0 ≤ sumI f n ∧ sumI f n ≤ n
  | 0, _ => by unfold sumI; omega
  | n + 1, h => by
    have ih := sumI_b n (fun i a b => h i a (by omega))
    have := h n (by omega) (by omega)
    unfold sumI; omega
/-- how many of the first n are so -/
noncomputable def many (p : Int → Prop) (n : Nat) : Int := sumI (fun z => bC (p z)) n
theorem many_b (p : Int → Prop) (n : Nat) : 0 ≤ many p n ∧ many p n ≤ n := sumI_b n (fun i _ _ => bC_b _)
theorem many_bI (p : Int → Prop) {k : Int} (h : 0 ≤ k) : many p k.toNat ≤ k := by have := (many_b p k.toNat).2; omega
theorem many_t {p : Int → Prop} {k : Int} (h : 0 ≤ k) (hp : p k) : many p (k + 1).toNat = many p k.toNat + 1 := by
  unfold many; rw [sumI_s _ h, bC_t hp]
theorem many_f {p : Int → Prop} {k : Int} (h : 0 ≤ k) (hp : ¬ p k) : many p (k + 1).toNat = many p k.toNat := by
  unfold many; rw [sumI_s _ h, bC_f hp, Int.add_zero]
theorem many_c {p q : Int → Prop} (n : Nat) (h : ∀ i : Int, 0 ≤ i → i < n → (p i ↔ q i)) : many p n = many q n :=
  sumI_c n (fun i a b => by show bC (p i) = bC (q i); rw [propext (h i a b)])
theorem many_m (p : Int → Prop) {m : Nat} : ∀ n : Nat, m ≤ n → many p m ≤ many p n
  | 0, h => by rw [show m = 0 by omega]; exact Int.le_refl _
  | n + 1, h => by
    by_cases e : m = n + 1
    · rw [e]; exact Int.le_refl _
    · have := many_m p n (m := m) (by omega)
      have h2 := bC_b (p n)
      show _ ≤ many p n + bC (p n)
      omega
/-- the i-th that is so -/
def isNth (p : Int → Prop) (N i r : Int) : Prop := (0 ≤ r ∧ r < N ∧ p r ∧ many p r.toNat = i) ∨ (r = -1 ∧ ∀ x : Int, 0 ≤ x → x < N → p x → many p x.toNat ≠ i)
theorem isNth_u {p : Int → Prop} {N i r r' : Int} (h : isNth p N i r) (h' : isNth p N i r') : r = r' := by
  have key : ∀ a b : Int, 0 ≤ a → a < b → p a → many p a.toNat = i → many p b.toNat = i → False := fun a b h0 h1 h2 h3 h4 => by
    have h5 := many_t h0 h2
    have h6 := many_m p (m := (a + 1).toNat) b.toNat (by omega)
    omega
  rcases h with ⟨a, b, c, d⟩ | ⟨a, b⟩
  · rcases h' with ⟨a', b', c', d'⟩ | ⟨a', b'⟩
    · rcases Int.lt_trichotomy r r' with q | q | q
      · exact (key r r' a q c d d').elim
      · exact q
      · exact (key r' r a' q c' d' d).elim
    · exact absurd d (b' r a b c)
  · rcases h' with ⟨a', b', c', d'⟩ | ⟨a', b'⟩
    · exact absurd d' (b r' a' b' c')
    · omega
theorem isNth_c {p q : Int → Prop} {N i r : Int} (h : ∀ z : Int, 0 ≤ z → z < N → (p z ↔ q z)) (hn : isNth p N i r) : isNth q N i r := by
  have e : ∀ z : Int, 0 ≤ z → z < N → many p z.toNat = many q z.toNat := fun z a b => many_c _ (fun i c d => h i c (by omega))
  rcases hn with ⟨a, b, c, d⟩ | ⟨a, b⟩
  · exact Or.inl ⟨a, b, (h r a b).mp c, by rw [← e r a b]; exact d⟩
  · exact Or.inr ⟨a, fun x c d f => by rw [← e x c d]; exact b x c d ((h x c d).mpr f)⟩
/-- none so far -/
theorem isNth_no {p : Int → Prop} {N i : Int} (h : many p N.toNat ≤ i ∨ i < 0) : isNth p N i (-1) := by
  refine Or.inr ⟨rfl, fun x h0 h1 h2 h3 => ?_⟩
  have h5 := many_t h0 h2
  have h6 := many_m p (m := (x + 1).toNat) N.toNat (by omega)
  have h7 := many_b p x.toNat
  omega
theorem isNth_y {p : Int → Prop} {N i r : Int} (h0 : 0 ≤ r) (h1 : r < N) (h2 : p r) (h3 : many p r.toNat = i) : isNth p N i r := Or.inl ⟨h0, h1, h2, h3⟩
/-- the greatest of the first n, at least lo -/
def maxI (lo : Int) (f : Int → Int) : Nat → Int
  | 0 => lo
  | n + 1 => if maxI lo f n < f n then f n else maxI lo f n
theorem maxI_s (lo : Int) (f : Int → Int) {k : Int} (h : 0 ≤ k) : maxI lo f (k + 1).toNat = if maxI lo f k.toNat < f k then f k else maxI lo f k.toNat := by
  rw [show (k + 1).toNat = k.toNat + 1 by omega]
  show (if _ < f (k.toNat : Int) then f (k.toNat : Int) else _) = _
  rw [show ((k.toNat : Nat) : Int) = k by omega]
theorem maxI_c {lo : Int} {f g : Int → Int} : ∀ n : Nat, (∀ i : Int, 0 ≤ i → i < n → f i = g i) → maxI lo f n = maxI lo g n
  | 0, _ => rfl
  | n + 1, h => by
    unfold maxI
    rw [maxI_c n (fun i a b => h i a (by omega)), h n (by omega) (by omega)]
theorem maxI_b {lo hi : Int} {f : Int → Int} (hl : lo ≤ hi) : ∀ n : Nat, (∀ i : Int, 0 ≤ i → i < n → f i ≤ hi) → lo ≤ maxI lo f n ∧ maxI lo f n ≤ hi
  | 0, _ => by unfold maxI; omega
  | n + 1, h => by
    have ih := maxI_b hl n (fun i a b => h i a (by omega))
    have := h n (by omega) (by omega)
    unfold maxI; split <;> omega
theorem maxI_ge {lo : Int} {f : Int → Int} {i : Int} : ∀ n : Nat, 0 ≤ i → i < n → f i ≤ maxI lo f n
  | 0, _, _ => by omega
  | n + 1, h0, h1 => by
    unfold maxI
    by_cases e : i = n
    · subst e; split <;> omega
    · have := maxI_ge (lo := lo) (f := f) n h0 (by omega)
      split <;> omega
theorem maxI_at {lo : Int} {f : Int → Int} : ∀ n : Nat, maxI lo f n = lo ∨ ∃ i : Int, 0 ≤ i ∧ i < n ∧ f i = maxI lo f n
  | 0 => Or.inl rfl
  | n + 1 => by
    unfold maxI
    split
    · exact Or.inr ⟨n, by omega, by omega, rfl⟩
    · rcases maxI_at (lo := lo) (f := f) n with h | ⟨i, a, b, c⟩
      · exact Or.inl h
      · exact Or.inr ⟨i, a, by omega, c⟩
/-! what is laid out goes alike -/
theorem rng_lay {g f : Int → Int} {N : Int} (hg : rng g N) : rng (lay N g f) N := fun x h0 h1 => by rw [lay_at h0 h1]; exact hg x h0 h1
theorem lay_it {g f : Int → Int} {N x : Int} (hg : rng g N) (h0 : 0 ≤ x) (h1 : x < N) (n : Nat) : it (lay N g f) x n = it g x n := it_c hg (fun z a b => lay_at a b) h0 h1 n
theorem lay_cyc {g f : Int → Int} {N x : Int} (hg : rng g N) (h0 : 0 ≤ x) (h1 : x < N) : cyc (lay N g f) x ↔ cyc g x := by
  constructor
  · rintro ⟨m, a, b⟩; exact ⟨m, a, by rw [← lay_it (f := f) hg h0 h1]; exact b⟩
  · rintro ⟨m, a, b⟩; exact ⟨m, a, by rw [lay_it hg h0 h1]; exact b⟩
theorem lay_tl {g f : Int → Int} {N x : Int} (hg : rng g N) (h0 : 0 ≤ x) (h1 : x < N) : tl (lay N g f) x = tl g x := by
  have hs := tl_sp hg h0 h1
  have := tl_eq (g := lay N g f) (x := x) (n := (tl g x).toNat) (by
      have hb := it_b hg h0 h1 (tl g x).toNat
      rw [lay_it hg h0 h1, lay_cyc hg hb.1 hb.2]; exact hs.2.1) (fun m hm => by
      have hb := it_b hg h0 h1 m
      rw [lay_it hg h0 h1, lay_cyc hg hb.1 hb.2]; exact hs.2.2 m (by omega))
  rw [this]; omega
theorem lay_rg {g f : Int → Int} {N x : Int} (hg : rng g N) (h0 : 0 ≤ x) (h1 : x < N) : rg (lay N g f) x = rg g x := by
  by_cases hc : cyc g x
  · have hs := rg_sp hc
    have := rg_eq (g := lay N g f) (x := x) (n := (rg g x).toNat) (by omega) (by rw [lay_it hg h0 h1]; exact hs.2.1) (fun m a b => by rw [lay_it hg h0 h1]; exact hs.2.2 m a (by omega))
    rw [this]; omega
  · rw [rg_0 hc, rg_0 (by rw [lay_cyc hg h0 h1]; exact hc)]
theorem lay_hm {g f : Int → Int} {N x : Int} (hg : rng g N) (h0 : 0 ≤ x) (h1 : x < N) : hm (lay N g f) x = hm g x := by
  obtain ⟨⟨n, e, c⟩, h⟩ := hm_ex hg h0 h1
  have hb := it_b hg h0 h1 n
  refine hm_eq ⟨⟨n, by rw [lay_it hg h0 h1]; exact e, ?_⟩, fun j hj => ?_⟩
  · rw [e, lay_cyc hg hb.1 hb.2, ← e]; exact c
  · have hb := it_b hg h0 h1 j
    rw [lay_it hg h0 h1] at hj ⊢
    rw [lay_cyc hg hb.1 hb.2] at hj
    exact h j hj
theorem lay_c {N : Int} {g g' f : Int → Int} (h : ∀ x : Int, 0 ≤ x → x < N → g x = g' x) : lay N g f = lay N g' f := by
  funext z; unfold lay
  by_cases q : 0 ≤ z ∧ z < N
  · rw [if_pos q, if_pos q, h z q.1 q.2]
  · rw [if_neg q, if_neg q]
theorem nx_rng (h a : Int → Int) : rng (nx h a) (h 2) := fun _ h0 h1 => nx_b h0 h1
/-- all goes are laid out -/
def GO (h a n t m r : Int → Int) : Prop := ∀ x : Int, 0 ≤ x → x < h 2 → (n x = nx h a x ∧ t x = tl (nx h a) x) ∧ m x = hm (nx h a) x ∧ r x = rg (nx h a) x
theorem NXO_rng {h a n : Int → Int} (q : NXO h a n) : rng n (h 2) := fun x h0 h1 => by rw [q x h0 h1]; exact nx_b h0 h1
theorem NXO_lay {h a n : Int → Int} (q : NXO h a n) : n = lay (h 2) (nx h a) n := by
  funext z
  by_cases w : 0 ≤ z ∧ z < h 2
  · rw [lay_at w.1 w.2]; exact q z w.1 w.2
  · rw [lay_n w]
theorem NXO_tl {h a n : Int → Int} (q : NXO h a n) {x : Int} (h0 : 0 ≤ x) (h1 : x < h 2) : tl n x = tl (nx h a) x := by
  rw [NXO_lay q]; exact lay_tl (nx_rng h a) h0 h1
theorem NXO_rg {h a n : Int → Int} (q : NXO h a n) {x : Int} (h0 : 0 ≤ x) (h1 : x < h 2) : rg n x = rg (nx h a) x := by
  rw [NXO_lay q]; exact lay_rg (nx_rng h a) h0 h1
theorem NXO_hm {h a n : Int → Int} (q : NXO h a n) {x : Int} (h0 : 0 ≤ x) (h1 : x < h 2) : hm n x = hm (nx h a) x := by
  rw [NXO_lay q]; exact lay_hm (nx_rng h a) h0 h1
theorem NXO_it {h a n : Int → Int} (q : NXO h a n) {x : Int} (h0 : 0 ≤ x) (h1 : x < h 2) (k : Nat) : it n x k = it (nx h a) x k := by
  rw [NXO_lay q]; exact lay_it (nx_rng h a) h0 h1 k
theorem GO_of {h a n t m r t' m' r' : Int → Int} (q : NXO h a n) (e1 : t = lay (h 2) (tl n) t') (e2 : m = lay (h 2) (hm n) m') (e3 : r = lay (h 2) (rg n) r') : GO h a n t m r := fun x h0 h1 => by
  rw [e1, e2, e3, lay_at h0 h1, lay_at h0 h1, lay_at h0 h1]
  exact ⟨⟨q x h0 h1, NXO_tl q h0 h1⟩, NXO_hm q h0 h1, NXO_rg q h0 h1⟩
theorem GO_n {h a n t m r : Int → Int} (q : GO h a n t m r) : NXO h a n := fun x h0 h1 => (q x h0 h1).1.1
/-! the i-th, as a number -/
noncomputable def nthF (p : Int → Prop) (N i : Int) : Int := Classical.epsilon (isNth p N i)
theorem nth_eq {p : Int → Prop} {N i r : Int} (h : isNth p N i r) : r = nthF p N i := isNth_u h (Classical.epsilon_spec (p := isNth p N i) ⟨r, h⟩)
theorem nthF_c {p q : Int → Prop} {N i : Int} (h : ∀ z : Int, 0 ≤ z → z < N → (p z ↔ q z)) : nthF p N i = nthF q N i := by
  unfold nthF
  have : isNth p N i = isNth q N i := funext fun r => propext ⟨isNth_c h, isNth_c (fun z a b => (h z a b).symm)⟩
  rw [this]
