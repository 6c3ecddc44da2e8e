/-! WHAT THE CALLS ANSWER: by the table's head h, its words a, its told numbers td, its lines -/
set_option maxRecDepth 100000
def rSize (ln : Int) (h : Int → Int) : Int := if 0 < ln then h 2 else -2
def rFigure (h : Int → Int) (x i : Int) : Int := if (0 ≤ x ∧ x < h 2) ∧ 0 ≤ i ∧ i < h 1 then dig (h 0) (h 1) x i else -2
noncomputable def rNext (h a : Int → Int) (x : Int) : Int := if 0 ≤ x ∧ x < h 2 then nx h a x else -2
noncomputable def rThrough (h a : Int → Int) (x i : Int) : Int := if (0 ≤ x ∧ x < h 2) ∧ 0 ≤ i ∧ i ≤ h 3 then (thrS h a x i.toNat).2 else -2
noncomputable def rAfter (h a : Int → Int) (x n : Int) : Int := if (0 ≤ x ∧ x < h 2) ∧ 0 ≤ n ∧ n ≤ 1000000000 then it (nx h a) x n.toNat else -2
noncomputable def rEnds (h a : Int → Int) (x w : Int) : Int := if (0 ≤ x ∧ x < h 2) ∧ 0 ≤ w ∧ w ≤ 3 then
  (if w = 0 then tl (nx h a) x else if w = 1 then rg (nx h a) (hm (nx h a) x) else if w = 2 then hm (nx h a) x else it (nx h a) x (tl (nx h a) x).toNat) else -2
/-- the longest round's least -/
noncomputable def lgst (p : Int → Prop) (r : Int → Int) : Nat → Int
  | 0 => 0
  | n + 1 => by classical exact if p n ∧ (¬ p (lgst p r n) ∨ r (lgst p r n) < r n) then n else lgst p r n
theorem lgst_s (p : Int → Prop) (r : Int → Int) {k : Int} (h : 0 ≤ k) : (p k ∧ (¬ p (lgst p r k.toNat) ∨ r (lgst p r k.toNat) < r k) → lgst p r (k + 1).toNat = k) ∧ (¬ (p k ∧ (¬ p (lgst p r k.toNat) ∨ r (lgst p r k.toNat) < r k)) → lgst p r (k + 1).toNat = lgst p r k.toNat) := by
  have e : ((k.toNat : Nat) : Int) = k := by omega
  rw [show (k + 1).toNat = k.toNat + 1 by omega]
  constructor
  · intro q
    rw [← e] at q ⊢
    exact if_pos q
  · intro q
    rw [← e] at q
    exact if_neg q
theorem lgst_c {p q : Int → Prop} {r r' : Int → Int} {N : Int} (hp : ∀ z : Int, 0 ≤ z → z < N → (p z ↔ q z)) (hr : ∀ z : Int, 0 ≤ z → z < N → r z = r' z) : ∀ n : Nat, n ≤ N → lgst p r n = lgst q r' n ∧ 0 ≤ lgst p r n ∧ (n = 0 ∨ lgst p r n < n)
  | 0, _ => ⟨rfl, Int.le_refl _, Or.inl rfl⟩
  | n + 1, hn => by
    have ih := lgst_c hp hr n (by omega)
    have hb : 0 ≤ lgst p r n ∧ lgst p r n < N := by
      refine ⟨ih.2.1, ?_⟩
      rcases ih.2.2 with w | w
      · subst w; show (0 : Int) < N; omega
      · omega
    have e : (p n ∧ (¬ p (lgst p r n) ∨ r (lgst p r n) < r n)) ↔ (q n ∧ (¬ q (lgst q r' n) ∨ r' (lgst q r' n) < r' n)) := by
      rw [← ih.1, hp n (by omega) (by omega), hp _ hb.1 hb.2, hr n (by omega) (by omega), hr _ hb.1 hb.2]
    by_cases w : p n ∧ (¬ p (lgst p r n) ∨ r (lgst p r n) < r n)
    · have e1 : lgst p r (n + 1) = n := if_pos w
      have e2 : lgst q r' (n + 1) = n := if_pos (e.mp w)
      rw [e1, e2]; exact ⟨rfl, by omega, Or.inr (by omega)⟩
    · have e1 : lgst p r (n + 1) = lgst p r n := if_neg w
      have e2 : lgst q r' (n + 1) = lgst q r' n := if_neg (fun v => w (e.mpr v))
      rw [e1, e2]
      refine ⟨ih.1, ih.2.1, Or.inr ?_⟩
      rcases ih.2.2 with w | w
      · subst w; show (0 : Int) < _; omega
      · omega
def ishome (g : Int → Int) (x : Int) : Prop := hm g x = x
noncomputable def longR (g : Int → Int) (N : Int) : Int := lgst (fun x => hm g x = x) (rg g) N.toNat
noncomputable def rRounds (ln : Int) (h a : Int → Int) (w : Int) : Int := if 0 < ln ∧ 0 ≤ w ∧ w ≤ 3 then
  (if w = 0 then many (fun x => hm (nx h a) x = x) (h 2).toNat else if w = 2 then rg (nx h a) (longR (nx h a) (h 2)) else if w = 3 then longR (nx h a) (h 2) else many (fun x => nx h a x = x) (h 2).toNat) else -2
noncomputable def homeN (g : Int → Int) (N i : Int) : Int := nthF (fun x => hm g x = x) N i
noncomputable def hTl (g : Int → Int) (c x : Int) : Int := if hm g x = c then tl g x else 0
noncomputable def rRound (ln : Int) (h a : Int → Int) (i w : Int) : Int := if 0 < ln ∧ 0 ≤ w ∧ w ≤ 3 then
  (if homeN (nx h a) (h 2) i = -1 ∨ w = 0 then homeN (nx h a) (h 2) i else if w = 1 then rg (nx h a) (homeN (nx h a) (h 2) i)
   else if w = 2 then many (fun x => hm (nx h a) x = homeN (nx h a) (h 2) i) (h 2).toNat else maxI 0 (hTl (nx h a) (homeN (nx h a) (h 2) i)) (h 2).toNat) else -2
noncomputable def rOn (ln : Int) (h a : Int → Int) (i k : Int) : Int := if 0 < ln then
  (if homeN (nx h a) (h 2) i = -1 ∨ ¬ (0 ≤ k ∧ k < rg (nx h a) (homeN (nx h a) (h 2) i)) then -1 else it (nx h a) (homeN (nx h a) (h 2) i) k.toNat) else -2
noncomputable def mostT (h a : Int → Int) : Int := maxI 0 (tl (nx h a)) (h 2).toNat
noncomputable def rMost (ln : Int) (h a : Int → Int) (w : Int) : Int := if 0 < ln ∧ 0 ≤ w ∧ w ≤ 2 then
  (if w = 0 then mostT h a else if w = 1 then nthF (fun x => tl (nx h a) x = mostT h a) (h 2) 0 else many (fun x => tl (nx h a) x = mostT h a) (h 2).toNat) else -2
noncomputable def rTake (ln : Int) (h a : Int → Int) (n : Int) : Int := if 0 < ln ∧ 0 ≤ n then many (fun x => tl (nx h a) x = n) (h 2).toNat else -2
def noneTo (g : Int → Int) (N x : Int) : Prop := ∀ y : Int, 0 ≤ y → y < N → g y ≠ x
noncomputable def rGardens (ln : Int) (h a : Int → Int) : Int := if 0 < ln then many (noneTo (nx h a) (h 2)) (h 2).toNat else -2
noncomputable def rGarden (ln : Int) (h a : Int → Int) (i : Int) : Int := if 0 < ln then nthF (noneTo (nx h a) (h 2)) (h 2) i else -2
noncomputable def rFrom (h a : Int → Int) (x w : Int) : Int := if (0 ≤ x ∧ x < h 2) ∧ -1 ≤ w then
  (if w = -1 then many (fun y => nx h a y = x) (h 2).toNat else nthF (fun y => nx h a y = x) (h 2) w) else -2
/-- comes to x for the first time behind n goes -/
def awayIs (g : Int → Int) (x y : Int) (n : Nat) : Prop := leastOf (fun k => it g y k = x) n
noncomputable def rBack (h a : Int → Int) (x n : Int) : Int := if (0 ≤ x ∧ x < h 2) ∧ 0 ≤ n ∧ n ≤ 200 then many (fun y => awayIs (nx h a) x y n.toNat) (h 2).toNat else -2
noncomputable def rMeet (h a : Int → Int) (x y : Int) : Int := if (0 ≤ x ∧ x < h 2) ∧ 0 ≤ y ∧ y < h 2 then nthF (fun n => it (nx h a) x n.toNat = it (nx h a) y n.toNat) (h 2 + 1) 0 else -2
noncomputable def joinN (g : Int → Int) (N x y : Int) : Int := nthF (fun n => orb g y (it g x n.toNat)) (N + 1) 0
noncomputable def rJoin (h a : Int → Int) (x y w : Int) : Int := if ((0 ≤ x ∧ x < h 2) ∧ 0 ≤ y ∧ y < h 2) ∧ 0 ≤ w ∧ w ≤ 2 then
  (if joinN (nx h a) (h 2) x y = -1 then -1 else if w = 0 then it (nx h a) x (joinN (nx h a) (h 2) x y).toNat else if w = 1 then joinN (nx h a) (h 2) x y else idx (nx h a) y (it (nx h a) x (joinN (nx h a) (h 2) x y).toNat)) else -2
noncomputable def rKinds (ln : Int) (h : Int → Int) : Int := if 0 < ln then many (fun x => upv (h 0) (h 1) x = x) (h 2).toNat else -2
noncomputable def rKind (h : Int → Int) (x w : Int) : Int := if (0 ≤ x ∧ x < h 2) ∧ 0 ≤ w ∧ w ≤ 1 then
  (if w = 0 then upv (h 0) (h 1) x else many (fun y => upv (h 0) (h 1) y = upv (h 0) (h 1) x) (h 2).toNat) else -2
noncomputable def rOdd (ln : Int) (h a : Int → Int) : Int := if 0 < ln then nthF (fun x => nx h a x ≠ nx h a (upv (h 0) (h 1) x)) (h 2) 0 else -2
/-- a table that holds has a base -/
def lOK (ln : Int) (h : Int → Int) : Prop := 0 ≤ ln ∧ (0 < ln ↔ 0 < h 0)
theorem hm_tl {g : Int → Int} {N x : Int} (hg : rng g N) (h0 : 0 ≤ x) (h1 : x < N) : ∃ k, hm g x = it g (it g x (tl g x).toNat) k := by
  obtain ⟨⟨n, e, c⟩, _⟩ := hm_ex hg h0 h1
  have hs := tl_sp hg h0 h1
  have hn : (tl g x).toNat ≤ n := by
    by_cases q : (tl g x).toNat ≤ n
    · exact q
    · exact absurd (by rw [← e]; exact c) (hs.2.2 n (by omega))
  exact ⟨n - (tl g x).toNat, by rw [← it_a, show (tl g x).toNat + (n - (tl g x).toNat) = n by omega]; exact e⟩
theorem rg_hm {g : Int → Int} {N x : Int} (hg : rng g N) (h0 : 0 ≤ x) (h1 : x < N) : rg g (hm g x) = rg g (it g x (tl g x).toNat) := by
  obtain ⟨k, e⟩ := hm_tl hg h0 h1
  rw [e, rg_n (tl_sp hg h0 h1).2.1]
theorem after_eq {g : Int → Int} {N x n : Int} (hg : rng g N) (h0 : 0 ≤ x) (h1 : x < N) (hn : tl g x ≤ n) : it g (it g x (tl g x).toNat) ((n - tl g x) % rg g (hm g x)).toNat = it g x n.toNat := by
  have hs := tl_sp hg h0 h1
  have hr := rg_sp hs.2.1
  have e := it_mod hs.2.1 (n - tl g x).toNat
  rw [← it_a, show (tl g x).toNat + (n - tl g x).toNat = n.toNat by omega] at e
  rw [e, rg_hm hg h0 h1]
  congr 1
  have : ((n - tl g x).toNat : Int) % ((rg g (it g x (tl g x).toNat)).toNat : Int) = (((n - tl g x).toNat % (rg g (it g x (tl g x).toNat)).toNat : Nat) : Int) := (Int.natCast_emod _ _).symm
  rw [show ((n - tl g x).toNat : Int) = n - tl g x by omega, show ((rg g (it g x (tl g x).toNat)).toNat : Int) = rg g (it g x (tl g x).toNat) by omega] at this
  rw [this]; omega
theorem GO_at {h a n t m r : Int → Int} (q : GO h a n t m r) {x : Int} (h0 : 0 ≤ x) (h1 : x < h 2) : ((n x = nx h a x ∧ 0 ≤ nx h a x ∧ nx h a x < h 2) ∧ t x = tl (nx h a) x ∧ 0 ≤ tl (nx h a) x ∧ tl (nx h a) x < h 2) ∧ (m x = hm (nx h a) x ∧ 0 ≤ hm (nx h a) x ∧ hm (nx h a) x < h 2) ∧ r x = rg (nx h a) x ∧ r (hm (nx h a) x) = rg (nx h a) (hm (nx h a) x) ∧ 0 < rg (nx h a) (hm (nx h a) x) ∧ rg (nx h a) (hm (nx h a) x) ≤ h 2 := by
  have hg := nx_rng h a
  have hb := hm_b hg h0 h1
  have q1 := q x h0 h1
  have q2 := q _ hb.1.1 hb.1.2
  have := (rg_sp hb.2).1
  have := rg_le hg hb.1.1 hb.1.2 hb.2
  exact ⟨⟨⟨q1.1.1, nx_b h0 h1⟩, q1.1.2, (tl_sp hg h0 h1).1⟩, ⟨q1.2.1, hb.1⟩, q1.2.2, q2.2.2, by omega, by omega⟩
theorem lgst_b (p : Int → Prop) (r : Int → Int) (n : Nat) : 0 ≤ lgst p r n ∧ lgst p r n ≤ n := by
  have := lgst_c (p := p) (q := p) (r := r) (r' := r) (N := n) (fun _ _ _ => Iff.rfl) (fun _ _ _ => rfl) n (Int.le_refl _)
  refine ⟨this.2.1, ?_⟩
  rcases this.2.2 with w | w
  · subst w; exact Int.le_refl _
  · omega
theorem lgst_lt (p : Int → Prop) (r : Int → Int) {n : Nat} (h : 0 < n) : lgst p r n < n := by
  have := lgst_c (p := p) (q := p) (r := r) (r' := r) (N := n) (fun _ _ _ => Iff.rfl) (fun _ _ _ => rfl) n (Int.le_refl _)
  rcases this.2.2 with w | w <;> omega
theorem lOK_N {ln : Int} {h : Int → Int} (t : tOK h) (l : lOK ln h) (h0 : 0 < ln) : 0 < h 2 := by
  have h1 := l.2.mp h0
  rcases t with t | t
  · omega
  · have := pow_pos' (B := h 0) (by omega) (h 1).toNat; omega
theorem GO_lg {h a n t m r : Int → Int} (q : GO h a n t m r) (h0 : 0 < h 2) : lgst (fun x => m x = x) r (h 2).toNat = longR (nx h a) (h 2) ∧ (0 ≤ longR (nx h a) (h 2) ∧ longR (nx h a) (h 2) < h 2) ∧ r (longR (nx h a) (h 2)) = rg (nx h a) (longR (nx h a) (h 2)) := by
  have e := (lgst_c (p := fun x => m x = x) (q := fun x => hm (nx h a) x = x) (r := r) (r' := rg (nx h a)) (N := h 2) (fun i h0 h1 => by rw [(q i h0 h1).2.1]) (fun i h0 h1 => (q i h0 h1).2.2) (h 2).toNat (by omega)).1
  have b1 := lgst_b (fun x => hm (nx h a) x = x) (rg (nx h a)) (h 2).toNat
  have b2 := lgst_lt (fun x => hm (nx h a) x = x) (rg (nx h a)) (n := (h 2).toNat) (by omega)
  refine ⟨e, ⟨b1.1, ?_⟩, (q _ b1.1 ?_).2.2⟩
  · show lgst _ _ _ < h 2; omega
  · omega
theorem GO_home {h a n t m r : Int → Int} (q : GO h a n t m r) {i k : Int} (hn : isNth (fun x => m x = x) (h 2) i k) : k = homeN (nx h a) (h 2) i ∧ (k = -1 ∨ (0 ≤ k ∧ k < h 2) ∧ cyc (nx h a) k ∧ r k = rg (nx h a) k) := by
  have e := isNth_c (q := fun x => hm (nx h a) x = x) (fun z h0 h1 => by rw [(q z h0 h1).2.1]) hn
  refine ⟨nth_eq e, ?_⟩
  rcases e with ⟨h0, h1, h2, _⟩ | ⟨e, _⟩
  · refine Or.inr ⟨⟨h0, h1⟩, ?_, (q k h0 h1).2.2⟩
    have h2 : hm (nx h a) k = k := h2
    rw [← h2]; exact (hm_b (nx_rng h a) h0 h1).2
  · exact Or.inl e
theorem hTl_y {g : Int → Int} {c x : Int} (h : hm g x = c) : hTl g c x = tl g x := if_pos h
theorem hTl_n {g : Int → Int} {c x : Int} (h : ¬ hm g x = c) : hTl g c x = 0 := if_neg h
theorem max_hit {lo : Int} {f : Int → Int} {k : Int} (h : 0 ≤ k) (hl : maxI lo f k.toNat < f k) : maxI lo f (k + 1).toNat = f k := by rw [maxI_s _ _ h, if_pos hl]
theorem max_not {lo : Int} {f : Int → Int} {k : Int} (h : 0 ≤ k) (hl : ¬ maxI lo f k.toNat < f k) : maxI lo f (k + 1).toNat = maxI lo f k.toNat := by rw [maxI_s _ _ h, if_neg hl]
theorem max_lo (lo : Int) (f : Int → Int) : ∀ n : Nat, lo ≤ maxI lo f n
  | 0 => Int.le_refl _
  | n + 1 => by have := max_lo lo f n; unfold maxI; split <;> omega
