/-! gathering, the plain law -/
set_option maxRecDepth 100000
def orb (g : Int → Int) (x z : Int) : Prop := ∃ i, it g x i = z
noncomputable def layO (p : Int → Prop) (v : Int) (f : Int → Int) : Int → Int := by classical exact fun z => if p z then v else f z
theorem layO_y {p : Int → Prop} {v : Int} {f : Int → Int} {z : Int} (h : p z) : layO p v f z = v := if_pos h
theorem layO_n {p : Int → Prop} {v : Int} {f : Int → Int} {z : Int} (h : ¬ p z) : layO p v f z = f z := if_neg h
theorem layO_e {p q : Int → Prop} {v : Int} {f : Int → Int} (h : ∀ z, p z ↔ q z) : layO p v f = layO q v f := by
  have : p = q := funext fun z => propext (h z)
  rw [this]
theorem layO_up {p : Int → Prop} {v y : Int} {f : Int → Int} : upI (layO p v f) y v = layO (fun z => p z ∨ z = y) v f := by
  funext z
  by_cases e : z = y
  · subst e; rw [upI_s, layO_y (Or.inr rfl)]
  · rw [upI_n _ _ e]
    by_cases q : p z
    · rw [layO_y q, layO_y (Or.inl q)]
    · rw [layO_n q, layO_n (fun h => h.elim q e)]
noncomputable def idx (g : Int → Int) (x z : Int) : Nat := theLeast (fun i => it g x i = z)
theorem idx_eq {g : Int → Int} {x : Int} (h : cyc g x) {k : Nat} (hk : k < rg g x) : idx g x (it g x k) = k :=
  theLeast_eq ⟨rfl, fun m hm e => rg_d h m k hm hk e⟩
/-- rounds: the first k of one's -/
def ond (g : Int → Int) (x : Int) (k : Nat) (z : Int) : Prop := ∃ i, i < k ∧ it g x i = z
theorem ond_s {g : Int → Int} {x : Int} {k : Nat} (z : Int) : (ond g x k z ∨ z = it g x k) ↔ ond g x (k + 1) z := by
  constructor
  · rintro (⟨i, a, b⟩ | e)
    · exact ⟨i, by omega, b⟩
    · exact ⟨k, by omega, e.symm⟩
  · rintro ⟨i, a, b⟩
    by_cases q : i = k
    · subst q; exact Or.inr b.symm
    · exact Or.inl ⟨i, by omega, b⟩
theorem ond_all {g : Int → Int} {x : Int} (h : cyc g x) (z : Int) : ond g x (rg g x).toNat z ↔ orb g x z := by
  constructor
  · rintro ⟨i, a, b⟩; exact ⟨i, b⟩
  · rintro ⟨i, b⟩
    have := rg_sp h
    refine ⟨i % (rg g x).toNat, Nat.mod_lt _ (by omega), ?_⟩
    rw [← it_mod h]; exact b
theorem orb_in {g : Int → Int} {N x z : Int} (hg : rng g N) (h0 : 0 ≤ x) (h1 : x < N) (h : orb g x z) : 0 ≤ z ∧ z < N := by
  obtain ⟨i, e⟩ := h
  rw [← e]; exact it_b hg h0 h1 i
def MK (g : Int → Int) (N : Int) (f15 f16 f17 s15 s16 : Int → Int) (x : Int) : Prop :=
  (0 ≤ x ∧ x ≤ N) ∧ (∀ z, 0 ≤ z → z < N → z < x → f17 z ≠ -1) ∧ (∀ z, 0 ≤ z → z < N → -1 ≤ f17 z ∧ f17 z < x) ∧ (∀ z, 0 ≤ z → z < N → f17 z ≠ -1 → f17 (g z) ≠ -1 ∧ f16 z = rg g z ∧ (cyc g z → f15 z = hm g z)) ∧ (∀ z, 0 ≤ z → z < N → f17 z = -1 → f16 z = 0 ∧ f15 z = -1) ∧ ∀ z, ¬ (0 ≤ z ∧ z < N) → f15 z = s15 z ∧ f16 z = s16 z
def PT (g : Int → Int) (N : Int) (f15 f16 f17 s15 s16 : Int → Int) (x y : Int) : Prop :=
  (0 ≤ x ∧ x < N) ∧ (∃ k, y = it g x k ∧ (∀ i, i < k → f17 (it g x i) = x) ∧ ∀ z, 0 ≤ z → z < N → f17 z = x → ∃ i, i < k ∧ it g x i = z) ∧ (∀ z, 0 ≤ z → z < N → z < x → f17 z ≠ -1) ∧ (∀ z, 0 ≤ z → z < N → -1 ≤ f17 z ∧ f17 z ≤ x) ∧ (∀ z, 0 ≤ z → z < N → f17 z ≠ -1 → f17 z ≠ x → (f17 (g z) ≠ -1 ∧ f17 (g z) ≠ x) ∧ f16 z = rg g z ∧ (cyc g z → f15 z = hm g z)) ∧ (∀ z, 0 ≤ z → z < N → (f17 z = -1 ∨ f17 z = x) → f16 z = 0 ∧ f15 z = -1) ∧ ∀ z, ¬ (0 ≤ z ∧ z < N) → f15 z = s15 z ∧ f16 z = s16 z
theorem MK_0 {g : Int → Int} {N : Int} {s15 s16 s17 : Int → Int} (hN : 0 ≤ N) (h0 : ∀ z, 0 ≤ z → z < N → s16 z = 0) : MK g N (lay N (fun _ => -1) s15) s16 (lay N (fun _ => -1) s17) s15 s16 0 := by
  refine ⟨⟨by omega, hN⟩, fun z a b c => by omega, fun z a b => ?_, fun z a b c => ?_, fun z a b _ => ⟨h0 z a b, lay_at a b⟩, fun z h => ⟨lay_n h, rfl⟩⟩
  · rw [lay_at a b]; omega
  · exact absurd (lay_at a b) c
theorem MK_skip {g : Int → Int} {N : Int} {f15 f16 f17 s15 s16 : Int → Int} {x : Int} (h : MK g N f15 f16 f17 s15 s16 x) (hx : x < N) (hm : f17 x ≠ -1) : MK g N f15 f16 f17 s15 s16 (x + 1) := by
  obtain ⟨a, b, c, d, e, f⟩ := h
  refine ⟨by omega, fun z h0 h1 h2 => ?_, fun z h0 h1 => by have := c z h0 h1; omega, d, e, f⟩
  by_cases q : z = x
  · subst q; exact hm
  · exact b z h0 h1 (by omega)
theorem MK_PT {g : Int → Int} {N : Int} {f15 f16 f17 s15 s16 : Int → Int} {x : Int} (h : MK g N f15 f16 f17 s15 s16 x) (hg : rng g N) (hx : x < N) : PT g N f15 f16 f17 s15 s16 x x := by
  obtain ⟨a, b, c, d, e, f⟩ := h
  refine ⟨⟨a.1, hx⟩, ⟨0, rfl, fun i hi => by omega, fun z h0 h1 h2 => by have := c z h0 h1; omega⟩, b, fun z h0 h1 => by have := c z h0 h1; omega, fun z h0 h1 h2 h3 => ?_, fun z h0 h1 h2 => e z h0 h1 (by have := c z h0 h1; omega), f⟩
  have := d z h0 h1 h2
  have hz := hg z h0 h1
  have := c (g z) hz.1 hz.2
  exact ⟨⟨by omega, by omega⟩, by omega, (d z h0 h1 h2).2.2⟩
theorem PT_b {g : Int → Int} {N : Int} {f15 f16 f17 s15 s16 : Int → Int} {x y : Int} (h : PT g N f15 f16 f17 s15 s16 x y) (hg : rng g N) : 0 ≤ y ∧ y < N := by
  obtain ⟨a, ⟨k, e, _⟩, _⟩ := h
  rw [e]; exact it_b hg a.1 a.2 k
theorem PT_s {g : Int → Int} {N : Int} {f15 f16 f17 s15 s16 : Int → Int} {x y : Int} (h : PT g N f15 f16 f17 s15 s16 x y) (hg : rng g N) (hy : f17 y = -1) : PT g N f15 f16 (upI f17 y x) s15 s16 x (g y) := by
  have hyb := PT_b h hg
  obtain ⟨a, ⟨k, e, m, p⟩, b, c, d, u, o⟩ := h
  refine ⟨a, ⟨k + 1, by rw [e]; rfl, fun i hi => ?_, fun z h0 h1 h2 => ?_⟩, fun z h0 h1 h2 => ?_, fun z h0 h1 => ?_, fun z h0 h1 h2 h3 => ?_, fun z h0 h1 h2 => ?_, o⟩
  · by_cases q : it g x i = y
    · rw [q, upI_s]
    · rw [upI_n _ _ q]
      exact m i (by have : i ≠ k := fun r => q (by rw [r, e]); omega)
  · by_cases q : z = y
    · exact ⟨k, by omega, by rw [← e]; exact q.symm⟩
    · rw [upI_n _ _ q] at h2
      obtain ⟨i, r, t⟩ := p z h0 h1 h2
      exact ⟨i, by omega, t⟩
  · by_cases q : z = y
    · rw [q, upI_s]; omega
    · rw [upI_n _ _ q]; exact b z h0 h1 h2
  · by_cases q : z = y
    · rw [q, upI_s]; omega
    · rw [upI_n _ _ q]; exact c z h0 h1
  · by_cases q : z = y
    · rw [q, upI_s] at h3; exact absurd rfl h3
    · rw [upI_n _ _ q] at h2 h3
      have h4 := d z h0 h1 h2 h3
      have q2 : g z ≠ y := fun r => h4.1.1 (by rw [r]; exact hy)
      rw [upI_n _ _ q2]
      exact h4
  · by_cases q : z = y
    · subst q; exact u z h0 h1 (Or.inl hy)
    · rw [upI_n _ _ q] at h2; exact u z h0 h1 h2
theorem PT_old {g : Int → Int} {N : Int} {f15 f16 f17 s15 s16 : Int → Int} {x y : Int} (h : PT g N f15 f16 f17 s15 s16 x y) (hg : rng g N) (hy : f17 y ≠ -1) (hx : f17 y ≠ x) : MK g N f15 f16 f17 s15 s16 (x + 1) := by
  have hyb := PT_b h hg
  obtain ⟨a, ⟨k, e, m, p⟩, b, c, d, u, o⟩ := h
  have old : ∀ n, f17 (it g y n) ≠ -1 ∧ f17 (it g y n) ≠ x := by
    intro n
    induction n with
    | zero => exact ⟨hy, hx⟩
    | succ n ih =>
      have hb := it_b hg hyb.1 hyb.2 n
      exact (d _ hb.1 hb.2 ih.1 ih.2).1
  refine ⟨by omega, fun z h0 h1 h2 => ?_, fun z h0 h1 => by have := c z h0 h1; omega, fun z h0 h1 h2 => ?_, fun z h0 h1 h2 => u z h0 h1 (Or.inl h2), o⟩
  · by_cases q : z = x
    · subst q
      cases k with
      | zero => rw [show z = y from e.symm]; exact hy
      | succ k => have := m 0 (by omega); rw [show f17 z = z from this]; omega
    · exact b z h0 h1 (by omega)
  · by_cases q : f17 z = x
    · obtain ⟨i, hi, r⟩ := p z h0 h1 q
      have hn : ¬ cyc g z := fun hc => by
        obtain ⟨j, hj⟩ := cyc_back hc (k - i)
        rw [← r, ← it_a g x i (k - i), show i + (k - i) = k by omega, ← e] at hj
        have := (old j).2
        rw [hj, r] at this
        exact this q
      have hu := u z h0 h1 (Or.inr q)
      refine ⟨?_, by rw [hu.1, rg_0 hn], fun hc => absurd hc hn⟩
      rw [← r, show g (it g x i) = it g x (i + 1) from rfl]
      by_cases w : i + 1 = k
      · rw [w, ← e]; exact hy
      · rw [m (i + 1) (by omega)]; omega
    · have := d z h0 h1 h2 q
      exact ⟨this.1.1, this.2⟩
theorem PT_new {g : Int → Int} {N : Int} {f15 f16 f17 s15 s16 : Int → Int} {x y : Int} (h : PT g N f15 f16 f17 s15 s16 x y) (hg : rng g N) (hy : f17 y = x) : cyc g y ∧ f15 y = -1 ∧ MK g N (layO (orb g y) (hm g y) f15) (layO (orb g y) (rg g y) f16) f17 s15 s16 (x + 1) := by
  have hyb := PT_b h hg
  obtain ⟨a, ⟨k, e, m, p⟩, b, c, d, u, o⟩ := h
  obtain ⟨i, hi, ei⟩ := p y hyb.1 hyb.2 hy
  have hc : cyc g y := ⟨k - i, by omega, by rw [← ei, ← it_a, show i + (k - i) = k by omega, ← e, ei]⟩
  have step : ∀ z, 0 ≤ z → z < N → f17 z = x → f17 (g z) = x := fun z h0 h1 h2 => by
    obtain ⟨j, hj, r⟩ := p z h0 h1 h2
    rw [← r, show g (it g x j) = it g x (j + 1) from rfl]
    by_cases w : j + 1 = k
    · rw [w, ← e]; exact hy
    · exact m (j + 1) (by omega)
  have all : ∀ n, f17 (it g y n) = x := by
    intro n
    induction n with
    | zero => exact hy
    | succ n ih =>
      have hb := it_b hg hyb.1 hyb.2 n
      exact step _ hb.1 hb.2 ih
  refine ⟨hc, (u y hyb.1 hyb.2 (Or.inr hy)).2, by omega, fun z h0 h1 h2 => ?_, fun z h0 h1 => by have := c z h0 h1; omega, fun z h0 h1 h2 => ?_, fun z h0 h1 h2 => ?_, fun z hz => ?_⟩
  · by_cases q : z = x
    · subst q
      have := m 0 (by omega); rw [show f17 z = z from this]; omega
    · exact b z h0 h1 (by omega)
  · by_cases w : orb g y z
    · rw [layO_y w, layO_y w]
      obtain ⟨n, r⟩ := w
      refine ⟨?_, ?_, fun _ => ?_⟩
      · rw [step z h0 h1 (by rw [← r]; exact all n)]; omega
      · rw [← r, rg_n hc]
      · rw [← r, hm_it hg hyb.1 hyb.2]
    · rw [layO_n w, layO_n w]
      by_cases q : f17 z = x
      · obtain ⟨j, hj, r⟩ := p z h0 h1 q
        have hn : ¬ cyc g z := fun hc => by
          obtain ⟨n, hn⟩ := cyc_back hc (k - j)
          rw [← r, ← it_a g x j (k - j), show j + (k - j) = k by omega, ← e] at hn
          exact w ⟨n, by rw [hn, r]⟩
        have hu := u z h0 h1 (Or.inr q)
        exact ⟨by rw [step z h0 h1 q]; omega, by rw [hu.1, rg_0 hn], fun hc => absurd hc hn⟩
      · have := d z h0 h1 h2 q
        exact ⟨this.1.1, this.2⟩
  · have w : ¬ orb g y z := fun ⟨n, r⟩ => by have := all n; rw [r] at this; omega
    rw [layO_n w, layO_n w]
    exact u z h0 h1 (Or.inl h2)
  · have w : ¬ orb g y z := fun w => hz (orb_in hg hyb.1 hyb.2 w)
    rw [layO_n w, layO_n w]; exact o z hz
theorem cnt_dec {f : Int → Int} {N y v : Int} (h0 : 0 ≤ y) (h1 : y < N) (e : f y = -1) (hv : v ≠ -1) : (cnt (upI f y v) (-1) N.toNat).toNat < (cnt f (-1) N.toNat).toNat := by
  have h2 := cnt_upd (g := f) (i := y) (x := v) (v := -1) (n := N.toNat) h0 (by omega)
  rw [if_pos e, if_neg hv] at h2
  have := cnt_nn (upI f y v) (-1) N.toNat
  omega
def FI (g : Int → Int) (N : Int) (f15 s15 : Int → Int) (x : Int) : Prop := (∀ z, 0 ≤ z → z < N → (z < x ∨ cyc g z) → f15 z = hm g z) ∧ ∀ z, ¬ (0 ≤ z ∧ z < N) → f15 z = s15 z
theorem FI_0 {g : Int → Int} {N : Int} {f15 f16 f17 s15 s16 : Int → Int} (h : MK g N f15 f16 f17 s15 s16 N) : FI g N f15 s15 0 ∧ f16 = lay N (rg g) s16 := by
  obtain ⟨a, b, c, d, u, o⟩ := h
  refine ⟨⟨fun z h0 h1 h2 => (d z h0 h1 (b z h0 h1 h1)).2.2 (h2.elim (fun q => by omega) id), fun z hz => (o z hz).1⟩, ?_⟩
  funext z
  by_cases q : 0 ≤ z ∧ z < N
  · rw [lay_at q.1 q.2]; exact (d z q.1 q.2 (b z q.1 q.2 q.2)).2.1
  · rw [lay_n q]; exact (o z q).2
theorem FI_s {g : Int → Int} {N : Int} {f15 s15 : Int → Int} {x : Int} (h : FI g N f15 s15 x) (hg : rng g N) (h0 : 0 ≤ x) (h1 : x < N) {n : Nat} (hc : cyc g (it g x n)) : FI g N (upI f15 x (f15 (it g x n))) s15 (x + 1) := by
  have hb := it_b hg h0 h1 n
  refine ⟨fun z a b c => ?_, fun z hz => ?_⟩
  · by_cases q : z = x
    · subst q; rw [upI_s, h.1 _ hb.1 hb.2 (Or.inr hc), hm_it hg h0 h1]
    · rw [upI_n _ _ q]; exact h.1 z a b (c.elim (fun r => Or.inl (by omega)) Or.inr)
  · rw [upI_n _ _ (by intro q; subst q; exact hz ⟨h0, h1⟩)]; exact h.2 z hz
theorem FI_N {g : Int → Int} {N : Int} {f15 s15 : Int → Int} (h : FI g N f15 s15 N) : f15 = lay N (hm g) s15 := by
  funext z
  by_cases q : 0 ≤ z ∧ z < N
  · rw [lay_at q.1 q.2]; exact h.1 z q.1 q.2 (Or.inl q.2)
  · rw [lay_n q]; exact h.2 z q
theorem rg_ne {g : Int → Int} {x : Int} (h : rg g x ≠ 0) : cyc g x := by
  by_cases q : cyc g x
  · exact q
  · exact absurd (rg_0 q) h
/-- a round gone along -/
def RD (g : Int → Int) (N o l n y : Int) : Prop := (0 ≤ n ∧ n < rg g o) ∧ y = it g o n.toNat ∧ (0 ≤ y ∧ y < N) ∧ (∃ j, l = it g o j) ∧ ∀ i : Nat, i < n → l ≤ it g o i
theorem RD_0 {g : Int → Int} {N o : Int} (hc : cyc g o) (h0 : 0 ≤ o) (h1 : o < N) : RD g N o o 0 o := by
  have := rg_sp hc
  exact ⟨⟨by omega, by omega⟩, rfl, ⟨h0, h1⟩, ⟨0, rfl⟩, fun i hi => by omega⟩
theorem RD_le {g : Int → Int} {N o l n y l' : Int} (h : RD g N o l n y) (hl : (l' = y ∧ y < l) ∨ (l' = l ∧ ¬ y < l)) : (∃ j, l' = it g o j) ∧ ∀ i : Nat, i < n + 1 → l' ≤ it g o i := by
  obtain ⟨a, e, b, ⟨j, ej⟩, c⟩ := h
  have hs : ∀ i : Nat, i < n + 1 → i = n.toNat ∨ (i : Int) < n := fun i hi => by omega
  rcases hl with ⟨rfl, q⟩ | ⟨rfl, q⟩
  · refine ⟨⟨_, e⟩, fun i hi => ?_⟩
    rcases hs i hi with r | r
    · rw [r, ← e]; exact Int.le_refl _
    · have := c i r; omega
  · refine ⟨⟨j, ej⟩, fun i hi => ?_⟩
    rcases hs i hi with r | r
    · rw [r, ← e]; omega
    · exact c i r
theorem RD_s {g : Int → Int} {N o l n y l' : Int} (hg : rng g N) (hc : cyc g o) (h : RD g N o l n y) (hl : (l' = y ∧ y < l) ∨ (l' = l ∧ ¬ y < l)) (hy : g y ≠ o) : RD g N o l' (n + 1) (g y) := by
  have h2 := RD_le h hl
  obtain ⟨a, e, b, _, _⟩ := h
  have hs := rg_sp hc
  have e2 : g y = it g o (n + 1).toNat := by rw [e, show (n + 1).toNat = n.toNat + 1 by omega]; rfl
  refine ⟨⟨by omega, ?_⟩, e2, hg y b.1 b.2, h2⟩
  by_cases q : n + 1 < rg g o
  · exact q
  · exact absurd (by rw [e2, show (n + 1).toNat = (rg g o).toNat by omega]; exact hs.2.1) hy
theorem RD_e {g : Int → Int} {N o l n y l' : Int} (hc : cyc g o) (h : RD g N o l n y) (hl : (l' = y ∧ y < l) ∨ (l' = l ∧ ¬ y < l)) (hy : g y = o) : l' = hm g o ∧ n + 1 = rg g o := by
  have h2 := RD_le h hl
  obtain ⟨a, e, b, _, _⟩ := h
  have hs := rg_sp hc
  have e2 : g y = it g o (n + 1).toNat := by rw [e, show (n + 1).toNat = n.toNat + 1 by omega]; rfl
  have hn : n + 1 = rg g o := by
    by_cases q : n + 1 < rg g o
    · exact absurd (by rw [← e2]; exact hy) (hs.2.2 (n + 1).toNat (by omega) (by omega))
    · omega
  refine ⟨(hm_eq ⟨?_, fun i _ => ?_⟩).symm, hn⟩
  · obtain ⟨j, ej⟩ := h2.1
    exact ⟨j, ej, by rw [ej]; exact cyc_n hc j⟩
  · rw [it_mod hc]
    exact h2.2 _ (by have := Nat.mod_lt i (show 0 < (rg g o).toNat by omega); omega)
def RE (g : Int → Int) (N o : Int) (f15 f16 s15 s16 : Int → Int) (y : Int) : Prop := (0 ≤ y ∧ y < N) ∧ ∃ k : Nat, k < rg g o ∧ y = it g o k ∧ f15 = layO (ond g o k) (hm g o) s15 ∧ f16 = layO (ond g o k) (rg g o) s16
theorem layO_none {p : Int → Prop} {v : Int} {f : Int → Int} (h : ∀ z, ¬ p z) : f = layO p v f := by
  funext z; rw [layO_n (h z)]
theorem RE_0 {g : Int → Int} {N o : Int} {s15 s16 : Int → Int} (hc : cyc g o) (h0 : 0 ≤ o) (h1 : o < N) : RE g N o s15 s16 s15 s16 o := by
  have := rg_sp hc
  exact ⟨⟨h0, h1⟩, 0, by omega, rfl, layO_none (fun z ⟨i, a, _⟩ => by omega), layO_none (fun z ⟨i, a, _⟩ => by omega)⟩
theorem RE_s {g : Int → Int} {N o : Int} {f15 f16 s15 s16 : Int → Int} {y : Int} (hg : rng g N) (hc : cyc g o) (h : RE g N o f15 f16 s15 s16 y) (hy : g y ≠ o) : RE g N o (upI f15 y (hm g o)) (upI f16 y (rg g o)) s15 s16 (g y) ∧ (rg g o).toNat - idx g o (g y) < (rg g o).toNat - idx g o y := by
  obtain ⟨b, k, hk, e, e1, e2⟩ := h
  have hs := rg_sp hc
  have eg : g y = it g o (k + 1) := by rw [e]; rfl
  have hk1 : ((k + 1 : Nat) : Int) < rg g o := by
    by_cases q : ((k + 1 : Nat) : Int) < rg g o
    · exact q
    · exact absurd (by rw [eg, show k + 1 = (rg g o).toNat by omega]; exact hs.2.1) hy
  refine ⟨⟨hg y b.1 b.2, k + 1, hk1, eg, ?_, ?_⟩, ?_⟩
  · rw [e1, layO_up, e]; exact layO_e (fun z => ond_s z)
  · rw [e2, layO_up, e]; exact layO_e (fun z => ond_s z)
  · rw [eg, e, idx_eq hc hk, idx_eq hc hk1]; omega
theorem RE_e {g : Int → Int} {N o : Int} {f15 f16 s15 s16 : Int → Int} {y : Int} (hc : cyc g o) (h : RE g N o f15 f16 s15 s16 y) (hy : g y = o) : upI f15 y (hm g o) = layO (orb g o) (hm g o) s15 ∧ upI f16 y (rg g o) = layO (orb g o) (rg g o) s16 := by
  obtain ⟨b, k, hk, e, e1, e2⟩ := h
  have hs := rg_sp hc
  have hk1 : k + 1 = (rg g o).toNat := by
    by_cases q : ((k + 1 : Nat) : Int) < rg g o
    · exact absurd ((show it g o (k + 1) = g y by rw [e]; rfl).trans hy) (hs.2.2 (k + 1) (by omega) q)
    · omega
  have ew : ∀ z, (ond g o k z ∨ z = y) ↔ orb g o z := fun z => by
    rw [e]
    exact (ond_s z).trans (by rw [hk1]; exact ond_all hc z)
  exact ⟨by rw [e1, layO_up]; exact layO_e ew, by rw [e2, layO_up]; exact layO_e ew⟩
