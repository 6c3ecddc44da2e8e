/-! judging, drawing, the best doing: the plain law -/
set_option maxRecDepth 100000
def badAt (h a : Int → Int) (c : Int → Int) (i : Int) : Prop := ¬ (0 ≤ c i ∧ c i < h 2) ∨ (0 < i ∧ c i ≠ nx h a (c (i - 1)))
noncomputable def judgeN (h a c : Int → Int) (m : Int) : Int := if nthF (badAt h a c) m 0 = -1 then m else nthF (badAt h a c) m 0
noncomputable def rJudge (ln : Int) (h a wd mn cl : Int → Int) (s : Int) : Int := if (0 ≤ s ∧ s ≤ 3) ∧ 0 < ln then (if wd s = -1 then -6 else judgeN h a (fun i => cl (60 * s + i)) (mn s)) else -2
theorem judge_at {h a c : Int → Int} {m i : Int} (h0 : 0 ≤ i) (h1 : i < m) (hb : badAt h a c i) (hn : ∀ j : Int, 0 ≤ j → j < i → ¬ badAt h a c j) : judgeN h a c m = i := by
  have e : nthF (badAt h a c) m 0 = i := (nth_eq (isNth_first h0 h1 hb hn)).symm
  unfold judgeN; rw [e, if_neg (by omega)]
theorem judge_all {h a c : Int → Int} {m : Int} (hn : ∀ j : Int, 0 ≤ j → j < m → ¬ badAt h a c j) : judgeN h a c m = m := by
  have e : nthF (badAt h a c) m 0 = -1 := (nth_eq (isNth_nofirst hn)).symm
  unfold judgeN; rw [e, if_pos rfl]
theorem bad_in {h a c : Int → Int} {i : Int} (hb : ¬ badAt h a c i) : 0 ≤ c i ∧ c i < h 2 := Classical.not_not.mp fun q => hb (Or.inl q)
/-! draws -/
def drw (sd : Int) : Nat → Int
  | 0 => sd
  | n + 1 => (1103515245 * drw sd n + 12345) % 2147483648
theorem drw_b {sd : Int} (h0 : 0 ≤ sd) (h1 : sd < 2147483648) : ∀ n, 0 ≤ drw sd n ∧ drw sd n < 2147483648
  | 0 => ⟨h0, h1⟩
  | n + 1 => ⟨Int.emod_nonneg _ (by omega), Int.emod_lt_of_pos _ (by omega)⟩
def drwI (sd N : Int) (k : Int) : Int := drw sd (k + 1).toNat / 65536 % N
theorem drwI_b {sd N k : Int} (hN : 0 < N) : 0 ≤ drwI sd N k ∧ drwI sd N k < N := ⟨Int.emod_nonneg _ (by omega), Int.emod_lt_of_pos _ hN⟩
theorem i64_s {x : Int} (h1 : 0 ≤ x) (h2 : x < 9223372036854775808) : i64 x = x := i64_id (by omega) h2
theorem drw_s {sd x : Int} {k : Int} (h0 : 0 ≤ sd) (h1 : sd < 2147483648) (hk : 0 ≤ k) (e : x = drw sd k.toNat) : i64 (Int.tmod (i64 (i64 (1103515245 * x) + 12345)) 2147483648) = drw sd (k + 1).toNat := by
  have b := drw_b h0 h1 k.toNat
  rw [← e] at b
  rw [i64_s (x := 1103515245 * x) (by omega) (by omega), i64_s (x := 1103515245 * x + 12345) (by omega) (by omega), tmod_n (by omega), i64_s (by omega) (by omega), show (k + 1).toNat = k.toNat + 1 by omega, e]
  rfl
theorem drw_i {sd N x : Int} {k : Int} (h0 : 0 ≤ sd) (h1 : sd < 2147483648) (hN : 0 < N) (hN2 : N ≤ 10000) (e : x = drw sd (k + 1).toNat) : i32 (i64 (Int.tmod (i64 (Int.tdiv x 65536)) N)) = drwI sd N k := by
  have b := drw_b h0 h1 (k + 1).toNat
  have b2 := drwI_b (sd := sd) (k := k) hN
  rw [← e] at b
  unfold drwI at b2 ⊢
  rw [← e] at b2 ⊢
  rw [tdiv_n b.1, i64_s (x := x / 65536) (by omega) (by omega), tmod_n (by omega), i64_s (by omega) (by omega), i32_s (by omega) (by omega)]
noncomputable def newK (f : Int → Int) (k : Int) : Int := bC (∀ j : Int, 0 ≤ j → j < k → f j ≠ f k)
noncomputable def rEvening (ln : Int) (h a : Int → Int) (sd n w : Int) : Int := if 0 < ln ∧ (0 ≤ sd ∧ sd ≤ 2000000000) ∧ (1 ≤ n ∧ n ≤ 100) ∧ 0 ≤ w ∧ w ≤ 2 then
  (if w = 0 then sumI (newK (fun k => hm (nx h a) (drwI sd (h 2) k))) n.toNat else if w = 1 then maxI 0 (fun k => tl (nx h a) (drwI sd (h 2) k)) n.toNat
   else many (fun k => hm (nx h a) (drwI sd (h 2) k) = hm (nx h a) (drwI sd (h 2) 0)) n.toNat) else -2
/-- marks of what was met -/
def MT (f f17 : Int → Int) (N k : Int) : Prop := ∀ z : Int, 0 ≤ z → z < N → f17 z = bC (∃ j : Int, (0 ≤ j ∧ j < k) ∧ f j = z)
theorem MT_0 {f f17 : Int → Int} {N : Int} (h : ∀ z : Int, 0 ≤ z → z < N → f17 z = 0) : MT f f17 N 0 := fun z a b => by
  rw [h z a b, bC_f]
  rintro ⟨j, c, _⟩; omega
theorem MT_s {f f17 : Int → Int} {N k : Int} (h : MT f f17 N k) (h0 : 0 ≤ k) : MT f (upI f17 (f k) 1) N (k + 1) := fun z a b => by
  by_cases e : z = f k
  · rw [e, upI_s, bC_t]; exact ⟨k, ⟨h0, by omega⟩, rfl⟩
  · rw [upI_n _ _ e, h z a b]
    apply bC_c
    constructor
    · rintro ⟨j, c, d⟩; exact ⟨j, ⟨c.1, by omega⟩, d⟩
    · rintro ⟨j, c, d⟩
      refine ⟨j, ⟨c.1, ?_⟩, d⟩
      by_cases q : j = k
      · subst q; exact absurd d.symm e
      · omega
theorem MT_new {f f17 : Int → Int} {N k : Int} (h : MT f f17 N k) (hf : 0 ≤ f k ∧ f k < N) : (f17 (f k) = 0 → newK f k = 1) ∧ (¬ f17 (f k) = 0 → newK f k = 0) := by
  rw [h _ hf.1 hf.2, bC_0]
  constructor
  · intro q; exact bC_t fun j a b c => q ⟨j, ⟨a, b⟩, c⟩
  · intro q
    obtain ⟨j, a, b⟩ := Classical.not_not.mp q
    exact bC_f fun w => w j a.1 a.2 b
theorem newK_01 (f : Int → Int) (k : Int) : 0 ≤ newK f k ∧ newK f k ≤ 1 := bC_b _
/-! all goes of any next -/
def GOx (g : Int → Int) (N : Int) (t m r : Int → Int) : Prop := ∀ x : Int, 0 ≤ x → x < N → t x = tl g x ∧ m x = hm g x ∧ r x = rg g x
theorem GOx_of {g n t m r t' m' r' : Int → Int} {N : Int} (hg : rng g N) (q : ∀ x : Int, 0 ≤ x → x < N → n x = g x) (e1 : t = lay N (tl n) t') (e2 : m = lay N (hm n) m') (e3 : r = lay N (rg n) r') : GOx g N t m r := fun x h0 h1 => by
  have en : n = lay N g n := by
    funext z
    by_cases w : 0 ≤ z ∧ z < N
    · rw [lay_at w.1 w.2]; exact q z w.1 w.2
    · rw [lay_n w]
  rw [e1, e2, e3, lay_at h0 h1, lay_at h0 h1, lay_at h0 h1, en, lay_tl hg h0 h1, lay_hm hg h0 h1, lay_rg hg h0 h1]
  exact ⟨rfl, rfl, rfl⟩
noncomputable def worth (g : Int → Int) (N w : Int) : Int := if w = 0 then rg g (longR g N) else if w = 1 then many (fun x => hm g x = x) N.toNat else maxI 0 (tl g) N.toNat
theorem GOx_w {g t m r : Int → Int} {N : Int} (q : GOx g N t m r) (h0 : 0 < N) : (r (lgst (fun x => m x = x) r N.toNat) = worth g N 0 ∧ 0 ≤ lgst (fun x => m x = x) r N.toNat ∧ lgst (fun x => m x = x) r N.toNat < N) ∧ many (fun x => m x = x) N.toNat = worth g N 1 ∧ maxI 0 t N.toNat = worth g N 2 := by
  have e := (lgst_c (p := fun x => m x = x) (q := fun x => hm g x = x) (r := r) (r' := rg g) (N := N) (fun i h0 h1 => by rw [(q i h0 h1).2.1]) (fun i h0 h1 => (q i h0 h1).2.2) N.toNat (by omega)).1
  have b1 := lgst_b (fun x => hm g x = x) (rg g) N.toNat
  have b2 := lgst_lt (fun x => hm g x = x) (rg g) (n := N.toNat) (by omega)
  refine ⟨⟨?_, by omega, by omega⟩, ?_, ?_⟩
  · rw [e]; exact (q _ b1.1 (by omega)).2.2
  · exact many_c _ (fun i h0 h1 => by rw [(q i h0 (by omega)).2.1])
  · exact maxI_c _ (fun i h0 h1 => (q i h0 (by omega)).1)
theorem worth_2 {g : Int → Int} {N w : Int} (h0 : w ≠ 0) (h1 : w ≠ 1) : worth g N w = worth g N 2 := by
  unfold worth; rw [if_neg h0, if_neg h1]; rfl
/-- the first greatest, and how great it is -/
def bst (f : Int → Int) : Nat → Int × Int
  | 0 => (-1, -1)
  | n + 1 => if (bst f n).2 < f n then (n, f n) else bst f n
theorem bst_s (f : Int → Int) {k : Int} (h : 0 ≤ k) : bst f (k + 1).toNat = if (bst f k.toNat).2 < f k then (k, f k) else bst f k.toNat := by
  rw [show (k + 1).toNat = k.toNat + 1 by omega]
  show (if _ < f (k.toNat : Int) then ((k.toNat : Int), f (k.toNat : Int)) else _) = _
  rw [show ((k.toNat : Nat) : Int) = k by omega]
theorem bst_b (f : Int → Int) : ∀ n : Nat, -1 ≤ (bst f n).1 ∧ ((bst f n).1 < n ∨ n = 0 ∧ (bst f n).1 = -1)
  | 0 => ⟨Int.le_refl _, Or.inr ⟨rfl, rfl⟩⟩
  | n + 1 => by
    have ih := bst_b f n
    unfold bst
    split
    · constructor
      · show (-1 : Int) ≤ n; omega
      · exact Or.inl (by show (n : Int) < _; omega)
    · exact ⟨ih.1, Or.inl (by omega)⟩
noncomputable def bestW (h : Int → Int) (n w r : Int) : Int := worth (fun x => rowV h x n r) (h 2) w
def fmtB (n b : Int) : Int := if n = 1 then b else 100 * (b / 12) + b % 12
noncomputable def rBest (ln : Int) (h : Int → Int) (n w : Int) : Int := if 0 < ln ∧ (1 ≤ n ∧ n ≤ 2) ∧ 0 ≤ w ∧ w ≤ 2 then fmtB n (bst (bestW h n w) (12 ^ n.toNat)).1 else -2
theorem rg_nn (g : Int → Int) (x : Int) : 0 ≤ rg g x := by
  by_cases h : cyc g x
  · have := (rg_sp h).1; omega
  · rw [rg_0 h]; omega
theorem worth_nn (g : Int → Int) (N w : Int) : 0 ≤ worth g N w := by
  unfold worth
  split
  · exact rg_nn _ _
  · split
    · exact (many_b _ _).1
    · exact max_lo 0 _ _
theorem bst_y {f : Int → Int} {k : Int} (h : 0 ≤ k) (q : (bst f k.toNat).2 < f k) : (bst f (k + 1).toNat).1 = k ∧ (bst f (k + 1).toNat).2 = f k := by
  rw [bst_s f h, if_pos q]; exact ⟨rfl, rfl⟩
theorem bst_n {f : Int → Int} {k : Int} (h : 0 ≤ k) (q : ¬ (bst f k.toNat).2 < f k) : (bst f (k + 1).toNat).1 = (bst f k.toNat).1 ∧ (bst f (k + 1).toNat).2 = (bst f k.toNat).2 := by
  rw [bst_s f h, if_neg q]; exact ⟨rfl, rfl⟩
theorem bst_nn {f : Int → Int} (hf : ∀ r, 0 ≤ f r) : ∀ n : Nat, 0 < n → 0 ≤ (bst f n).1 ∧ (bst f n).1 < n
  | 0, h => by omega
  | n + 1, _ => by
    unfold bst
    by_cases q : (bst f n).2 < f n
    · rw [if_pos q]; exact ⟨Int.natCast_nonneg _, by show (n : Int) < _; omega⟩
    · rw [if_neg q]
      by_cases z : 0 < n
      · have := bst_nn hf n z; omega
      · have hz : n = 0 := by omega
        subst hz
        exact absurd (by have := hf 0; show (-1 : Int) < f 0; omega) q
theorem row_nat {n : Int} (h0 : 1 ≤ n) (h1 : n ≤ 2) : ((12 : Int) ^ n.toNat).toNat = (12 : Nat) ^ n.toNat ∧ (n = 1 → (12 : Int) ^ n.toNat = 12) ∧ (n = 2 → (12 : Int) ^ n.toNat = 144) := by
  have hc : n = 1 ∨ n = 2 := by omega
  rcases hc with rfl | rfl <;> refine ⟨by decide, fun _ => ?_, fun _ => ?_⟩ <;> first | rfl | omega
theorem fmt_2 {b : Int} (h0 : 0 ≤ b) (h1 : b < 1000) {n : Int} (hn : n ≠ 1) : i32 (i32 (100 * i32 (Int.tdiv b 12)) + i32 (Int.tmod b 12)) = fmtB n b := by
  unfold fmtB
  rw [if_neg hn, tdiv_n h0, tmod_n h0, i32_s (x := b / 12) (by omega) (by omega), i32_s (x := 100 * (b / 12)) (by omega) (by omega), i32_s (x := b % 12) (by omega) (by omega), i32_s (by omega) (by omega)]
theorem fmt_1 {b n : Int} (hn : n = 1) : fmtB n b = b := if_pos hn
theorem rowV_b {h : Int → Int} {n r : Int} : rng (fun x => rowV h x n r) (h 2) := fun x h0 h1 => (thrS_b ⟨h0, h1⟩ _).2
theorem GOx_b {h n13 t' m' r' : Int → Int} {n r w : Int} (hN : 0 < h 2) (q : ∀ x : Int, 0 ≤ x → x < h 2 → n13 x = rowV h x n r) :
    (w = 0 → lay (h 2) (rg n13) r' (lgst (fun x => lay (h 2) (hm n13) m' x = x) (lay (h 2) (rg n13) r') (h 2).toNat) = bestW h n w r) ∧ (w = 1 → many (fun x => lay (h 2) (hm n13) m' x = x) (h 2).toNat = bestW h n w r) ∧ (w ≠ 0 → w ≠ 1 → maxI 0 (lay (h 2) (tl n13) t') (h 2).toNat = bestW h n w r) ∧ 0 ≤ lgst (fun x => lay (h 2) (hm n13) m' x = x) (lay (h 2) (rg n13) r') (h 2).toNat ∧ lgst (fun x => lay (h 2) (hm n13) m' x = x) (lay (h 2) (rg n13) r') (h 2).toNat < h 2 := by
  have a := GOx_w (GOx_of (t' := t') (m' := m') (r' := r') rowV_b q rfl rfl rfl) hN
  refine ⟨fun e => ?_, fun e => ?_, fun e f => ?_, a.1.2⟩
  · rw [e]; exact a.1.1
  · rw [e]; exact a.2.1
  · rw [a.2.2]; exact (worth_2 e f).symm
