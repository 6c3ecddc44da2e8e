/-! lemmas of what is answered, on -/
set_option maxRecDepth 100000
theorem many_no {p : Int → Prop} : ∀ n : Nat, (∀ i : Int, 0 ≤ i → i < n → ¬ p i) → many p n = 0
  | 0, _ => rfl
  | n + 1, h => by
    show many p n + bC (p n) = 0
    rw [many_no n (fun i a b => h i a (by omega)), bC_f (h n (by omega) (by omega))]; rfl
theorem isNth_first {p : Int → Prop} {N r : Int} (h0 : 0 ≤ r) (h1 : r < N) (hp : p r) (hn : ∀ z : Int, 0 ≤ z → z < r → ¬ p z) : isNth p N 0 r :=
  isNth_y h0 h1 hp (many_no _ (fun i a b => hn i a (by omega)))
theorem isNth_nofirst {p : Int → Prop} {N : Int} (hn : ∀ z : Int, 0 ≤ z → z < N → ¬ p z) : isNth p N 0 (-1) :=
  Or.inr ⟨rfl, fun x a b c => absurd c (hn x a b)⟩
theorem mostT_eq {h a n t m r : Int → Int} (q : GO h a n t m r) : maxI 0 t (h 2).toNat = mostT h a := maxI_c _ (fun i h0 h1 => (q i h0 (by omega)).1.2)
theorem mostT_ex {h a : Int → Int} (h0 : 0 < h 2) : ∃ i : Int, 0 ≤ i ∧ i < h 2 ∧ tl (nx h a) i = mostT h a := by
  rcases maxI_at (lo := 0) (f := tl (nx h a)) (h 2).toNat with e | ⟨i, a1, b, c⟩
  · refine ⟨0, by omega, h0, ?_⟩
    have h1 := maxI_ge (lo := 0) (f := tl (nx h a)) (i := 0) (h 2).toNat (by omega) (by omega)
    have h2 := (tl_sp (nx_rng h a) (Int.le_refl 0) h0).1.1
    unfold mostT; omega
  · exact ⟨i, a1, by omega, c⟩
theorem GO_many {h a n t m r : Int → Int} (q : GO h a n t m r) (k : Int) : many (fun x => t x = k) (h 2).toNat = many (fun x => tl (nx h a) x = k) (h 2).toNat :=
  many_c _ (fun i h0 h1 => by rw [(q i h0 (by omega)).1.2])
/-- what nothing comes to, marked -/
def GM (g f : Int → Int) (N k : Int) : Prop := ∀ z : Int, 0 ≤ z → z < N → ((f z = 1 ↔ ∃ y : Int, 0 ≤ y ∧ y < k ∧ g y = z))
theorem GM_0 {g f : Int → Int} {N : Int} (h : ∀ z : Int, 0 ≤ z → z < N → f z = 0) : GM g f N 0 := fun z a b => by
  rw [h z a b]
  constructor
  · intro e; omega
  · rintro ⟨y, c, d, _⟩; omega
theorem GM_s {g f : Int → Int} {N k : Int} (h : GM g f N k) (h0 : 0 ≤ k) : GM g (upI f (g k) 1) N (k + 1) := fun z a b => by
  by_cases e : z = g k
  · rw [e, upI_s]; exact ⟨fun _ => ⟨k, h0, by omega, rfl⟩, fun _ => rfl⟩
  · rw [upI_n _ _ e, h z a b]
    constructor
    · rintro ⟨y, c, d, q⟩; exact ⟨y, c, by omega, q⟩
    · rintro ⟨y, c, d, q⟩
      refine ⟨y, c, ?_, q⟩
      by_cases w : y = k
      · subst w; exact absurd q.symm e
      · omega
theorem GM_y {g f : Int → Int} {N z : Int} (h : GM g f N N) (a : 0 ≤ z) (b : z < N) (q : ¬ f z = 1) : noneTo g N z := fun y c d e => q ((h z a b).mpr ⟨y, c, d, e⟩)
theorem GM_n {g f : Int → Int} {N z : Int} (h : GM g f N N) (a : 0 ≤ z) (b : z < N) (q : f z = 1) : ¬ noneTo g N z := fun w => by
  obtain ⟨y, c, d, e⟩ := (h z a b).mp q
  exact w y c d e
theorem noneTo_c {g g' : Int → Int} {N z : Int} (h : ∀ x : Int, 0 ≤ x → x < N → g x = g' x) : noneTo g N z ↔ noneTo g' N z := by
  constructor
  · intro w y a b; rw [← h y a b]; exact w y a b
  · intro w y a b; rw [h y a b]; exact w y a b
/-- marks of one's way: how far off -/
def WM (g f : Int → Int) (N y : Int) (n : Nat) : Prop := (∀ j : Nat, j < n → f (it g y j) = j) ∧ ∀ w : Int, 0 ≤ w → w < N → (f w = -1 ∨ ∃ j : Nat, j < n ∧ it g y j = w)
theorem WM_0 {g f : Int → Int} {N y : Int} (h : ∀ w : Int, 0 ≤ w → w < N → f w = -1) : WM g f N y 0 := ⟨fun j hj => by omega, fun w a b => Or.inl (h w a b)⟩
theorem WM_s {g f : Int → Int} {N y : Int} {n : Nat} (h : WM g f N y n) (hf : f (it g y n) = -1) : WM g (upI f (it g y n) n) N y (n + 1) := by
  refine ⟨fun j hj => ?_, fun w a b => ?_⟩
  · by_cases e : j = n
    · subst e; rw [upI_s]
    · have hj2 := h.1 j (by omega)
      rw [upI_n _ _ (by intro q; rw [q, hf] at hj2; omega)]; exact hj2
  · by_cases e : w = it g y n
    · exact Or.inr ⟨n, by omega, e.symm⟩
    · rw [upI_n _ _ e]
      exact (h.2 w a b).elim Or.inl (fun ⟨j, c, d⟩ => Or.inr ⟨j, by omega, d⟩)
theorem WM_e {g f : Int → Int} {N y : Int} {n : Nat} (hg : rng g N) (h0 : 0 ≤ y) (h1 : y < N) (h : WM g f N y n) (hf : f (it g y n) ≠ -1) : ∀ w : Int, 0 ≤ w → w < N → (f w ≠ -1 → orb g y w ∧ f w = idx g y w) ∧ (f w = -1 → ¬ orb g y w) := by
  have hb := it_b hg h0 h1 n
  obtain ⟨i, hi, ei⟩ := (h.2 _ hb.1 hb.2).resolve_left hf
  have all : ∀ k, ∃ j : Nat, j < n ∧ it g y j = it g y k := by
    intro k
    induction k with
    | zero => exact ⟨0, by omega, rfl⟩
    | succ k ih =>
      obtain ⟨j, hj, e⟩ := ih
      by_cases q : j + 1 < n
      · exact ⟨j + 1, q, by show g _ = g _; rw [e]⟩
      · refine ⟨i, hi, ?_⟩
        rw [ei, show n = j + 1 by omega]
        show g _ = g _
        rw [e]
  intro w a b
  constructor
  · intro q
    obtain ⟨j, hj, e⟩ := (h.2 w a b).resolve_left q
    refine ⟨⟨j, e⟩, ?_⟩
    have hl : leastOf (fun i => it g y i = w) j := ⟨e, fun m hm em => by
      have e1 := h.1 m (by omega)
      have e2 := h.1 j hj
      rw [em] at e1; rw [e] at e2; omega⟩
    have e3 := theLeast_eq hl
    show f w = (theLeast (fun i => it g y i = w) : Int)
    rw [e3, ← e, h.1 j hj]
  · rintro q ⟨k, e⟩
    obtain ⟨j, hj, e2⟩ := all k
    have := h.1 j hj
    rw [e2, e, q] at this; omega
theorem away_y {g : Int → Int} {x y : Int} {n : Nat} (h : it g y n = x) (hl : ∀ m : Nat, m < n → it g y m ≠ x) : awayIs g x y n := ⟨h, hl⟩
theorem away_n1 {g : Int → Int} {x y : Int} {n k : Nat} (h : it g y k = x) (hk : k < n) : ¬ awayIs g x y n := fun w => w.2 k hk h
theorem away_n2 {g : Int → Int} {x y : Int} {n : Nat} (h : it g y n ≠ x) : ¬ awayIs g x y n := fun w => h w.1
theorem cnt_all {g : Int → Int} {v : Int} : ∀ n : Nat, (∀ i : Int, 0 ≤ i → i < n → g i = v) → cnt g v n = n
  | 0, _ => rfl
  | n + 1, h => by
    rw [cnt_s, cnt_all n (fun i a b => h i a (by omega)), if_pos (h n (by omega) (by omega))]; omega
theorem join_at {g : Int → Int} {N x y n : Int} (h0 : 0 ≤ n) (h1 : n < N + 1) (h : orb g y (it g x n.toNat)) (hn : ∀ j : Int, 0 ≤ j → j < n → ¬ orb g y (it g x j.toNat)) : joinN g N x y = n :=
  (nth_eq (isNth_first (p := fun n => orb g y (it g x n.toNat)) h0 h1 h hn)).symm
theorem join_no {g : Int → Int} {N x y : Int} (hn : ∀ j : Int, 0 ≤ j → j < N + 1 → ¬ orb g y (it g x j.toNat)) : joinN g N x y = -1 :=
  (nth_eq (isNth_nofirst (p := fun n => orb g y (it g x n.toNat)) hn)).symm
theorem upv_N {h : Int → Int} {x : Int} (t : tOK h) (hN : 0 < h 2) : 0 ≤ upv (h 0) (h 1) x ∧ upv (h 0) (h 1) x < h 2 := by
  have hL := tOK_L t
  rcases t with t | t
  · omega
  · exact hor_N (Or.inr t) (by omega) (asc_in (srt_asc hL.1 (dig_in' (Or.inr t))) (dig_in' (Or.inr t)))
