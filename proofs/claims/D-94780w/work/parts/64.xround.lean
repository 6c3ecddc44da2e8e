/-! THE COMPONENT's ROUNDS: laid by going, once for all -/
set_option maxRecDepth 100000
/-- what is laid of y -/
def dnA (g : Int → Int) (t m r : Int → Int) (y : Int) : Prop := (0 ≤ t y ∧ t y = tl g y) ∧ (m y = hm g y ∧ (cyc g y → r y = rg g y)) ∧ 0 ≤ t (g y)
def RI (g : Int → Int) (N : Int) (t m r : Int → Int) : Prop := ∀ y : Int, 0 ≤ y → y < N → t y = -1 ∨ dnA g t m r y
/-- all is laid -/
def RO (g : Int → Int) (N : Int) (t m r : Int → Int) : Prop := ∀ y : Int, 0 ≤ y → y < N → (t y = tl g y ∧ m y = hm g y) ∧ (cyc g y → r y = rg g y)
def upT (x : Int) (t : Int → Int) : Prop := ∀ y : Int, 0 ≤ y → y < x → 0 ≤ t y
def WI (g : Int → Int) (N x n v : Int) (t0 t p : Int → Int) : Prop := ∃ k : Nat, n = k ∧ n ≤ N ∧ v = it g x k ∧ (∀ i : Nat, i < k → p i = it g x i ∧ t (it g x i) = -2 ∧ t0 (it g x i) = -1) ∧ (∀ i j : Nat, i < j → j < k → it g x i ≠ it g x j) ∧ ∀ y : Int, 0 ≤ y → y < N → (∀ i : Nat, i < k → y ≠ it g x i) → t y = t0 y
theorem WI_0 {g : Int → Int} {N x : Int} {t p : Int → Int} (hN : 0 ≤ N) : WI g N x 0 x t t p := ⟨0, rfl, hN, rfl, fun i h => by omega, fun i j h1 h2 => by omega, fun _ _ _ _ => rfl⟩
theorem WI_s {g : Int → Int} {N x n v : Int} {t0 t p : Int → Int} (hg : rng g N) (h0 : 0 ≤ x) (h1 : x < N) (h : WI g N x n v t0 t p) (ht : t v = -1) : n < N ∧ WI g N x (n + 1) (g v) t0 (upI t v (-2)) (upI p n v) := by
  obtain ⟨k, rfl, hn, rfl, hp, hd, hy⟩ := h
  have hv := it_b hg h0 h1 k
  have nv : ∀ i : Nat, i < k → it g x k ≠ it g x i := fun i hi e => by have := (hp i hi).2.1; rw [← e, ht] at this; exact absurd this (by decide)
  have hd' : ∀ i j : Nat, i < j → j < k + 1 → it g x i ≠ it g x j := fun i j a b => by
    by_cases e : j = k
    · rw [e]; exact (nv i (by omega)).symm
    · exact hd i j a (by omega)
  have hl := pigeon_le (by omega) (fun i (_ : i < k + 1) => it_b hg h0 h1 i) hd'
  refine ⟨by omega, k + 1, by omega, by omega, rfl, fun i hi => ?_, hd', fun y y0 y1 yn => ?_⟩
  · by_cases e : i = k
    · subst e
      exact ⟨upI_s _ _ _, upI_s _ _ _, by rw [← hy _ hv.1 hv.2 nv]; exact ht⟩
    · have hi' := hp i (by omega)
      rw [upI_n _ _ (by omega), upI_n _ _ (fun q => nv i (by omega) q.symm)]
      exact hi'
  · rw [upI_n _ _ (yn k (by omega))]
    exact hy y y0 y1 (fun i hi => yn i (by omega))
/-- from b on all is laid, ahead of it none is on a round -/
def BI (g : Int → Int) (N x b : Int) (t m r p : Int → Int) : Prop := upT x t ∧ ∃ k : Nat, b = k ∧ b ≤ N ∧ (∀ i : Nat, i < k → p i = it g x i ∧ ¬ cyc g (it g x i)) ∧ (∀ i j : Nat, i < j → j < k + 1 → it g x i ≠ it g x j) ∧ 0 ≤ t (it g x k) ∧ ∀ y : Int, 0 ≤ y → y < N → (∀ i : Nat, i < k → y ≠ it g x i) → t y = -1 ∨ dnA g t m r y
theorem BI_s {g : Int → Int} {N x b : Int} {t m r p : Int → Int} (hg : rng g N) (h0 : 0 ≤ x) (h1 : x < N) (h : BI g N x b t m r p) {i : Int} (hi : i = b - 1) (hi0 : 0 ≤ i) :
    ((0 ≤ p i ∧ p i < N) ∧ (0 ≤ g (p i) ∧ g (p i) < N)) ∧ (0 ≤ t (g (p i)) ∧ t (g (p i)) < N) ∧ BI g N x i (upI t (p i) (t (g (p i)) + 1)) (upI m (p i) (m (g (p i)))) r p := by
  obtain ⟨hu, k, hk, hb, hp, hd, hv, hy⟩ := h
  obtain ⟨k, rfl⟩ : ∃ j, k = j + 1 := ⟨k - 1, by omega⟩
  obtain rfl : i = (k : Int) := by omega
  have pk := hp k (by omega)
  rw [pk.1]
  have yb := it_b hg h0 h1 k
  have gb := it_b hg h0 h1 (k + 1)
  have eg : g (it g x k) = it g x (k + 1) := rfl
  rw [eg]
  have dn := hy _ gb.1 gb.2 (fun i hi => (hd i (k + 1) hi (by omega)).symm)
  have dn : dnA g t m r (it g x (k + 1)) := dn.resolve_left (by omega)
  have ts := tl_sp hg gb.1 gb.2
  have e1 : it g x (k + 1) ≠ it g x k := (hd k (k + 1) (by omega) (by omega)).symm
  have tt : 0 ≤ t (it g x (k + 1)) ∧ t (it g x (k + 1)) < N := by rw [dn.1.2]; exact ts.1
  refine ⟨⟨yb, gb⟩, tt, fun y y0 y1 => ?_, k, rfl, by omega, fun i hi => hp i (by omega), fun i j a b => hd i j a (by omega), ?_, fun y y0 y1 yn => ?_⟩
  · by_cases e : y = it g x k
    · rw [e, upI_s]; omega
    · rw [upI_n _ _ e]; exact hu y y0 y1
  · rw [upI_s]; omega
  · by_cases e : y = it g x k
    · subst e
      refine Or.inr ⟨⟨by rw [upI_s]; omega, by rw [upI_s, dn.1.2, tl_s hg yb.1 yb.2 pk.2]; rfl⟩, ⟨by rw [upI_s, dn.2.1.1]; exact (hm_it hg yb.1 yb.2 1), fun c => absurd c pk.2⟩, ?_⟩
      rw [eg, upI_n _ _ e1]; exact hv
    · have := hy y y0 y1 (fun i hi => by
        by_cases q : i = k
        · rw [q]; exact e
        · exact yn i (by omega))
      rcases this with this | this
      · exact Or.inl (by rw [upI_n _ _ e]; exact this)
      · refine Or.inr ⟨by rw [upI_n _ _ e]; exact this.1, by rw [upI_n _ _ e]; exact this.2.1, ?_⟩
        by_cases q : g y = it g x k
        · rw [q, upI_s]; omega
        · rw [upI_n _ _ q]; exact this.2.2
theorem BI_end {g : Int → Int} {N x b : Int} {t m r p : Int → Int} (h : BI g N x b t m r p) (hb : b = 0) : RI g N t m r ∧ upT (x + 1) t := by
  obtain ⟨hu, k, hk, _, hp, hd, hv, hy⟩ := h
  obtain rfl : k = 0 := by omega
  refine ⟨fun y y0 y1 => hy y y0 y1 (fun i hi => by omega), fun y y0 y1 => ?_⟩
  by_cases e : y = x
  · rw [e]; exact hv
  · exact hu y y0 (by omega)
theorem RI_end {g : Int → Int} {N x : Int} {t m r : Int → Int} (h : RI g N t m r) (hu : upT x t) (hx : N ≤ x) : RO g N t m r := fun y y0 y1 => by
  have := (h y y0 y1).resolve_left (by have := hu y y0 (by omega); omega)
  exact ⟨⟨this.1.2, this.2.1.1⟩, this.2.1.2⟩
theorem RI_0 {g : Int → Int} {N : Int} {t m r : Int → Int} (h : ∀ y : Int, 0 ≤ y → y < N → t y = -1) : RI g N t m r ∧ upT 0 t := ⟨fun y y0 y1 => Or.inl (h y y0 y1), fun y y0 y1 => by omega⟩
theorem RI_nn {g : Int → Int} {N : Int} {t m r : Int → Int} (h : RI g N t m r) {y : Int} (y0 : 0 ≤ y) (y1 : y < N) (hy : 0 ≤ t y) : dnA g t m r y := (h y y0 y1).resolve_left (by omega)
/-- what was laid comes to what was laid -/
theorem RI_it {g : Int → Int} {N : Int} {t m r : Int → Int} (hg : rng g N) (h : RI g N t m r) {y : Int} (y0 : 0 ≤ y) (y1 : y < N) (hy : 0 ≤ t y) : ∀ n : Nat, 0 ≤ t (it g y n) := by
  intro n
  induction n with
  | zero => exact hy
  | succ n ih => exact (RI_nn h (it_b hg y0 y1 n).1 (it_b hg y0 y1 n).2 ih).2.2
theorem WI_t {g : Int → Int} {N x n v : Int} {t0 t p : Int → Int} (hg : rng g N) (h0 : 0 ≤ x) (h1 : x < N) (h : WI g N x n v t0 t p) : (0 ≤ v ∧ v < N) ∧ (0 ≤ n ∧ n ≤ N) ∧ ∀ i : Int, 0 ≤ i → i < n → 0 ≤ p i ∧ p i < N := by
  obtain ⟨k, rfl, hn, rfl, hp, hd, hy⟩ := h
  refine ⟨it_b hg h0 h1 k, ⟨by omega, hn⟩, fun i i0 i1 => ?_⟩
  have := (hp i.toNat (by omega)).1
  rw [show ((i.toNat : Nat) : Int) = i by omega] at this
  rw [this]; exact it_b hg h0 h1 _
/-- it has come to what was laid earlier -/
theorem WI_met {g : Int → Int} {N x n v : Int} {t0 t m r p : Int → Int} (hg : rng g N) (h0 : 0 ≤ x) (h1 : x < N) (hr : RI g N t0 m r) (hu : upT x t0) (h : WI g N x n v t0 t p) (hv : t v ≠ -1) (hv2 : t v ≠ -2) : BI g N x n t m r p := by
  obtain ⟨k, rfl, hn, rfl, hp, hd, hy⟩ := h
  have vb := it_b hg h0 h1 k
  have nv : ∀ i : Nat, i < k → it g x k ≠ it g x i := fun i hi e => hv2 (by rw [e]; exact (hp i hi).2.1)
  have tv := hy _ vb.1 vb.2 nv
  have t0v : 0 ≤ t0 (it g x k) := by
    rcases hr _ vb.1 vb.2 with q | q
    · rw [tv] at hv; exact absurd q hv
    · exact q.1.1
  have same : ∀ y : Int, 0 ≤ y → y < N → 0 ≤ t0 y → t y = t0 y := fun y y0 y1 yt => hy y y0 y1 (fun i hi e => by have := (hp i hi).2.2; rw [← e] at this; omega)
  refine ⟨fun y y0 y1 => ?_, k, rfl, hn, fun i hi => ⟨(hp i hi).1, fun c => ?_⟩, fun i j a b => ?_, by rw [tv]; exact t0v, fun y y0 y1 yn => ?_⟩
  · rw [same y y0 (by omega) (hu y y0 y1)]; exact hu y y0 y1
  · obtain ⟨z, hz⟩ := cyc_back c (k - i)
    rw [← it_a, ← it_a, show i + (k - i + z) = k + z by omega, it_a] at hz
    have := RI_it hg hr vb.1 vb.2 t0v z
    rw [hz] at this
    have := (hp i hi).2.2
    omega
  · by_cases e : j = k
    · rw [e]; exact (nv i (by omega)).symm
    · exact hd i j a (by omega)
  · have ty := hy y y0 y1 yn
    rcases hr y y0 y1 with q | q
    · exact Or.inl (ty.trans q)
    · have gb := hg y y0 y1
      refine Or.inr ⟨by rw [ty]; exact q.1, q.2.1, by rw [same _ gb.1 gb.2 q.2.2]; exact q.2.2⟩
/-- what was met lies on this way -/
theorem WI_on {g : Int → Int} {N x n v : Int} {t0 t m r p : Int → Int} (hg : rng g N) (h0 : 0 ≤ x) (h1 : x < N) (hr : RI g N t0 m r) (h : WI g N x n v t0 t p) (hv : t v = -2) : ∃ j : Int, (0 ≤ j ∧ j < n) ∧ p j = v := by
  obtain ⟨k, rfl, hn, rfl, hp, hd, hy⟩ := h
  have vb := it_b hg h0 h1 k
  refine Classical.byContradiction (fun q => ?_)
  have nv : ∀ i : Nat, i < k → it g x k ≠ it g x i := fun i hi e => q ⟨i, ⟨by omega, by omega⟩, by rw [(hp i hi).1, e]⟩
  have tv := hy _ vb.1 vb.2 nv
  rcases hr _ vb.1 vb.2 with q | q
  · omega
  · have := q.1.1; omega
theorem round_in {g : Int → Int} {x : Int} {j n : Nat} (hj : j < n) (e : it g x n = it g x j) : ∀ k : Nat, ∃ i, j ≤ i ∧ i < n ∧ it g x (j + k) = it g x i := by
  intro k
  induction k with
  | zero => exact ⟨j, Nat.le_refl _, hj, rfl⟩
  | succ k ih =>
    obtain ⟨i, a, b, c⟩ := ih
    have s : it g x (j + (k + 1)) = it g x (i + 1) := by show g (it g x (j + k)) = g (it g x i); rw [c]
    by_cases q : i + 1 = n
    · exact ⟨j, Nat.le_refl _, hj, by rw [s, q, e]⟩
    · exact ⟨i + 1, by omega, by omega, s⟩
/-- a round is laid: all from j on are of it -/
theorem WI_round {g : Int → Int} {N x n v j low : Int} {t0 t t' m m' r r' p : Int → Int} (hg : rng g N) (h0 : 0 ≤ x) (h1 : x < N) (hr : RI g N t0 m r) (hu : upT x t0) (h : WI g N x n v t0 t p) (hj0 : 0 ≤ j) (hj1 : j < n) (hj : p j = v)
    (hl : (∃ i : Int, (j ≤ i ∧ i < n) ∧ low = p i) ∧ ∀ i : Int, j ≤ i → i < n → low ≤ p i) (hin : ∀ i : Int, j ≤ i → i < n → t' (p i) = 0 ∧ m' (p i) = low ∧ r' (p i) = n - j) (hout : ∀ y : Int, (∀ i : Int, j ≤ i → i < n → y ≠ p i) → t' y = t y ∧ m' y = m y ∧ r' y = r y) : BI g N x j t' m' r' p := by
  obtain ⟨k, rfl, hn, rfl, hp, hd, hy⟩ := h
  obtain ⟨j, rfl⟩ : ∃ i : Nat, j = i := ⟨j.toNat, by omega⟩
  have hjk : j < k := by omega
  have ej : it g x k = it g x j := by rw [← hj]; exact (hp j hjk).1
  have pi : ∀ i : Int, (j : Int) ≤ i → i < k → p i = it g x i.toNat := fun i a b => by
    have := (hp i.toNat (by omega)).1
    rwa [show ((i.toNat : Nat) : Int) = i by omega] at this
  have hc : ∀ i : Nat, j ≤ i → i < k → it g (it g x i) (k - j) = it g x i := fun i a b => by
    rw [← it_a, show i + (k - j) = k + (i - j) by omega, it_a, ej, ← it_a, show j + (i - j) = i by omega]
  have cy : ∀ i : Nat, j ≤ i → i < k → cyc g (it g x i) := fun i a b => ⟨k - j, by omega, hc i a b⟩
  have rd := round_in hjk ej
  have rdi : ∀ i : Nat, j ≤ i → i < k → ∀ z : Nat, ∃ i', j ≤ i' ∧ i' < k ∧ it g (it g x i) z = it g x i' := fun i a b z => by
    obtain ⟨i', c⟩ := rd (i - j + z)
    exact ⟨i', c.1, c.2.1, by rw [← it_a]; rw [show j + (i - j + z) = i + z by omega] at c; exact c.2.2⟩
  have rgi : ∀ i : Nat, j ≤ i → i < k → rg g (it g x i) = ((k - j : Nat) : Int) := fun i a b => by
    refine rg_eq (by omega) (hc i a b) (fun z z0 z1 e => ?_)
    rw [← it_a] at e
    by_cases q : i + z < k
    · exact hd i (i + z) (by omega) q e.symm
    · have e2 : it g x (i + z) = it g x (j + (i + z - k)) := by
        rw [show i + z = k + (i + z - k) by omega, it_a, ej, ← it_a, show k + (i + z - k) - k = i + z - k by omega]
      rw [e2] at e
      exact hd (j + (i + z - k)) i (by omega) b e
  have hmi : ∀ i : Nat, j ≤ i → i < k → hm g (it g x i) = low := fun i a b => by
    obtain ⟨⟨l, lb, le⟩, lm⟩ := hl
    rw [pi l lb.1 lb.2] at le
    refine hm_eq ⟨?_, fun z _ => ?_⟩
    · refine ⟨k - i + (l.toNat - j), ?_, by rw [le]; exact cy _ (by omega) (by omega)⟩
      rw [← it_a, show i + (k - i + (l.toNat - j)) = k + (l.toNat - j) by omega, it_a, ej, ← it_a, show j + (l.toNat - j) = l.toNat by omega]; exact le
    · obtain ⟨i', c⟩ := rdi i a b z
      rw [c.2.2, ← (hp i' c.2.1).1]
      exact lm i' (by omega) (by omega)
  have inn : ∀ i : Nat, j ≤ i → i < k → t' (it g x i) = 0 ∧ m' (it g x i) = low ∧ r' (it g x i) = (k : Int) - j := fun i a b => by rw [← (hp i b).1]; exact hin i (by omega) (by omega)
  have same : ∀ y : Int, 0 ≤ y → y < N → 0 ≤ t0 y → t' y = t0 y := fun y y0 y1 yt => by
    have ny : ∀ i : Nat, i < k → y ≠ it g x i := fun i hi e => by have := (hp i hi).2.2; rw [← e] at this; omega
    rw [(hout y (fun i a b e => ny i.toNat (by omega) (by rw [← pi i a b]; exact e))).1]
    exact hy y y0 y1 ny
  have done : ∀ i : Nat, j ≤ i → i < k → dnA g t' m' r' (it g x i) := fun i a b => by
    have q := inn i a b
    refine ⟨⟨by omega, by rw [q.1, tl_0 (cy i a b)]⟩, ⟨by rw [q.2.1, hmi i a b], fun _ => by rw [q.2.2, rgi i a b]; omega⟩, ?_⟩
    have e : g (it g x i) = it g x (i + 1) := rfl
    rw [e]
    by_cases z : i + 1 = k
    · rw [z, ej, (inn j (Nat.le_refl _) hjk).1]; decide
    · rw [(inn (i + 1) (by omega) (by omega)).1]; decide
  refine ⟨fun y y0 y1 => by rw [same y y0 (by omega) (hu y y0 y1)]; exact hu y y0 y1, j, rfl, by omega, fun i hi => ⟨(hp i (by omega)).1, fun c => ?_⟩, fun i l a b => hd i l a (by omega), by rw [(inn j (Nat.le_refl _) hjk).1]; decide, fun y y0 y1 yn => ?_⟩
  · obtain ⟨z, hz⟩ := cyc_back c (j - i)
    rw [← it_a, ← it_a, show i + (j - i + z) = j + z by omega] at hz
    obtain ⟨i', a, b, e⟩ := rd z
    exact hd i i' (by omega) b (hz.symm.trans e)
  · by_cases q : ∃ i : Nat, i < k ∧ y = it g x i
    · obtain ⟨i, ik, e⟩ := q
      by_cases z : j ≤ i
      · rw [e]; exact Or.inr (done i z ik)
      · exact absurd e (yn i (by omega))
    · have ny : ∀ i : Nat, i < k → y ≠ it g x i := fun i hi e => q ⟨i, hi, e⟩
      have o := hout y (fun i a b e => ny i.toNat (by omega) (by rw [← pi i a b]; exact e))
      have ty := hy y y0 y1 ny
      rcases hr y y0 y1 with w | w
      · exact Or.inl (by rw [o.1, ty]; exact w)
      · have gb := hg y y0 y1
        refine Or.inr ⟨by rw [o.1, ty]; exact w.1, by rw [o.2.1, o.2.2]; exact w.2.1, by rw [same _ gb.1 gb.2 w.2.2]; exact w.2.2⟩
/-- the least of a row's part -/
def lwP (p : Int → Int) (b e k low : Int) : Prop := (∃ i : Int, (b ≤ i ∧ i < e) ∧ low = p i) ∧ ∀ i : Int, b ≤ i → i < k → low ≤ p i
theorem lwP_s {p : Int → Int} {b e k low low' : Int} (h : lwP p b e k low) (h0 : b ≤ k) (h1 : k < e) (hl : low' = if low ≤ p k then low else p k) : lwP p b e (k + 1) low' := by
  by_cases c : low ≤ p k
  · rw [if_pos c] at hl
    refine ⟨by rw [hl]; exact h.1, fun i i0 i1 => ?_⟩
    by_cases q : i = k
    · rw [q, hl]; exact c
    · rw [hl]; exact h.2 i i0 (by omega)
  · rw [if_neg c] at hl
    refine ⟨⟨k, ⟨h0, h1⟩, hl⟩, fun i i0 i1 => ?_⟩
    by_cases q : i = k
    · rw [q, hl]; exact Int.le_refl _
    · have := h.2 i i0 (by omega); omega
/-- a round is laid up to k -/
def lrP (p : Int → Int) (b e k low : Int) (t m r t' m' r' : Int → Int) : Prop := (∀ i : Int, b ≤ i → i < k → t' (p i) = 0 ∧ m' (p i) = low ∧ r' (p i) = e - b) ∧ ∀ y : Int, (∀ i : Int, b ≤ i → i < k → y ≠ p i) → t' y = t y ∧ m' y = m y ∧ r' y = r y
theorem lrP_0 {p : Int → Int} {b e low : Int} {t m r : Int → Int} : lrP p b e b low t m r t m r := ⟨fun i a c => by omega, fun _ _ => ⟨rfl, rfl, rfl⟩⟩
theorem lrP_s {p : Int → Int} {b e k low w : Int} {t m r t' m' r' : Int → Int} (h : lrP p b e k low t m r t' m' r') (hb : b ≤ k) (hw : w = e - b) : lrP p b e (k + 1) low t m r (upI t' (p k) 0) (upI m' (p k) low) (upI r' (p k) w) := by
  subst hw
  refine ⟨fun i i0 i1 => ?_, fun y hy => ?_⟩
  · by_cases q : p i = p k
    · rw [q, upI_s, upI_s, upI_s]; exact ⟨rfl, rfl, rfl⟩
    · rw [upI_n _ _ q, upI_n _ _ q, upI_n _ _ q]
      exact h.1 i i0 (by by_cases z : i = k; (exact absurd (by rw [z]) q); omega)
  · have := hy k hb (by omega)
    rw [upI_n _ _ this, upI_n _ _ this, upI_n _ _ this]
    exact h.2 y (fun i i0 i1 => hy i i0 (by omega))
def lrQ (p : Int → Int) (b e : Int) (t m r t' m' r' : Int → Int) : Prop := ∃ low, lwP p b e e low ∧ lrP p b e e low t m r t' m' r'
/-- searching for what was met -/
def seR (p : Int → Int) (n v b : Int) : Prop := (∃ j : Int, (0 ≤ j ∧ j < b) ∧ p j = v) ∧ b ≤ n
theorem seR_s {p : Int → Int} {n v b : Int} (h : seR p n v b) (hn : p (b - 1) ≠ v) : seR p n v (b - 1) := by
  obtain ⟨⟨j, a, c⟩, d⟩ := h
  refine ⟨⟨j, ⟨a.1, ?_⟩, c⟩, by omega⟩
  by_cases q : j = b - 1
  · rw [q] at c; exact absurd c hn
  · omega
theorem seR_b {p : Int → Int} {n v b : Int} (h : seR p n v b) : 1 ≤ b := by
  obtain ⟨⟨j, a, c⟩, d⟩ := h; omega
theorem WI_laid {g : Int → Int} {N x n v j : Int} {t0 t t' m m' r r' p : Int → Int} (hg : rng g N) (h0 : 0 ≤ x) (h1 : x < N) (hr : RI g N t0 m r) (hu : upT x t0) (h : WI g N x n v t0 t p) (hs : seR p n v (j + 1)) (hj : p j = v) (hq : lrQ p j n t m r t' m' r') : BI g N x j t' m' r' p := by
  have sb := seR_b hs
  have s2 := hs.2
  obtain ⟨low, q1, q2⟩ := hq
  exact WI_round hg h0 h1 hr hu h (by omega) (by omega) hj q1 q2.1 q2.2
