/-! CROWDS: the plain law -/
set_option maxRecDepth 100000
theorem bC_0 {p : Prop} : bC p = 0 ↔ ¬ p := by
  constructor
  · intro h q; rw [bC_t q] at h; omega
  · intro h; exact bC_f h
theorem bC_1 {p : Prop} : bC p = 1 ↔ p := by
  constructor
  · intro h
    by_cases q : p
    · exact q
    · rw [bC_f q] at h; omega
  · intro h; exact bC_t h
theorem bC_c {p q : Prop} (h : p ↔ q) : bC p = bC q := by rw [propext h]
def toldP (n : Int) (td : Int → Int) (x : Int) : Prop := ∃ k : Int, 0 ≤ k ∧ k < n ∧ td k = x
/-- whether a number is of a crowd -/
def inC (h td : Int → Int) (c x : Int) : Prop := c = 0 ∨ (c = 3 ∧ toldP (h 5) td x) ∨ (c = 1 ∧ ∀ v, cnt (dig (h 0) (h 1) x) v (h 1).toNat ≠ h 1) ∨ (c = 2 ∧ ∀ v, cnt (dig (h 0) (h 1) x) v (h 1).toNat ≤ 1)
theorem cnt_full {g : Int → Int} {v : Int} : ∀ n : Nat, cnt g v n = n → ∀ i : Int, 0 ≤ i → i < n → g i = v
  | 0, _, i, h0, h1 => by omega
  | n + 1, h, i, h0, h1 => by
    rw [cnt_s] at h
    have hl := cnt_le g v n
    by_cases e : g n = v
    · rw [if_pos e] at h
      by_cases q : i = n
      · rw [q]; exact e
      · exact cnt_full n (by omega) i h0 (by omega)
    · rw [if_neg e] at h; omega
theorem asc_one {f g : Int → Int} {L : Int} (hL : 1 ≤ L) (h : ascOf f g L) (e : g 0 = g (L - 1)) : ¬ ∀ v, cnt f v L.toNat ≠ L := fun w => by
  apply w (g 0)
  rw [← h.2, cnt_all _ (fun i a b => by
    have h1 := h.1 0 i (by omega) a (by omega)
    have h2 := h.1 i (L - 1) a (by omega) (by omega)
    omega)]
  omega
theorem asc_two {f g : Int → Int} {L : Int} (hL : 1 ≤ L) (h : ascOf f g L) (e : ¬ g 0 = g (L - 1)) : ∀ v, cnt f v L.toNat ≠ L := fun v w => by
  rw [← h.2] at w
  have h1 := cnt_full (g := g) (v := v) L.toNat (by omega) 0 (by omega) (by omega)
  have h2 := cnt_full (g := g) (v := v) L.toNat (by omega) (L - 1) (by omega) (by omega)
  omega
theorem cnt_strict {g : Int → Int} : ∀ n : Nat, (∀ k : Int, 1 ≤ k → k < n → g (k - 1) < g k) → ∀ v, cnt g v n ≤ 1 ∧ (1 ≤ cnt g v n → v ≤ g ((n : Int) - 1))
  | 0, _, v => ⟨by show (0 : Int) ≤ 1; omega, fun h => by have : cnt g v 0 = 0 := rfl; omega⟩
  | n + 1, h, v => by
    have ih := cnt_strict n (fun k a b => h k a (by omega)) v
    rw [cnt_s]
    have e : (((n + 1 : Nat) : Int) - 1) = n := by omega
    rw [e]
    have hn := cnt_nn g v n
    by_cases q : g n = v
    · rw [if_pos q]
      have hz : cnt g v n = 0 := by
        by_cases w : 1 ≤ cnt g v n
        · have h1 := ih.2 w
          cases n with
          | zero => have : cnt g v 0 = 0 := rfl; omega
          | succ m =>
            have := h ((m + 1 : Nat) : Int) (by omega) (by omega)
            omega
        · omega
      omega
    · rw [if_neg q]
      refine ⟨by omega, fun w => ?_⟩
      have h1 := ih.2 (by omega)
      cases n with
      | zero => have : cnt g v 0 = 0 := rfl; omega
      | succ m =>
        have := h ((m + 1 : Nat) : Int) (by omega) (by omega)
        omega
theorem asc_dist {f g : Int → Int} {L : Int} (hL : 0 ≤ L) (h : ascOf f g L) (e : ∀ k : Int, 1 ≤ k → k < L → g k ≠ g (k - 1)) : ∀ v, cnt f v L.toNat ≤ 1 := fun v => by
  rw [← h.2]
  exact (cnt_strict L.toNat (fun k a b => by
    have h1 := h.1 (k - 1) k (by omega) (by omega) (by omega)
    have h2 := e k a (by omega)
    omega) v).1
theorem asc_twice {f g : Int → Int} {L k : Int} (h : ascOf f g L) (h0 : 1 ≤ k) (h1 : k < L) (e : g k = g (k - 1)) : ¬ ∀ v, cnt f v L.toNat ≤ 1 := fun w => by
  have h2 := w (g k)
  rw [← h.2] at h2
  have h3 := cnt_lt (g := g) (v := g k) (m := (k - 1).toNat) k.toNat (by omega) (by rw [show (((k - 1).toNat : Nat) : Int) = k - 1 by omega]; exact e.symm)
  have h4 := cnt_lt (g := g) (v := g k) (m := k.toNat) L.toNat (by omega) (by rw [show ((k.toNat : Nat) : Int) = k by omega])
  have h5 := cnt_nn g (g k) (k - 1).toNat
  omega
/-- a crowd behind n goes -/
def crS (h a td : Int → Int) (c : Int) (n : Nat) (z : Int) : Prop := ∃ x : Int, (0 ≤ x ∧ x < h 2) ∧ inC h td c x ∧ it (nx h a) x n = z
def stepS (g : Int → Int) (N : Int) (S : Int → Prop) (z : Int) : Prop := ∃ x : Int, (0 ≤ x ∧ x < N) ∧ S x ∧ g x = z
theorem crS_0 {h a td : Int → Int} {c z : Int} (h0 : 0 ≤ z) (h1 : z < h 2) : crS h a td c 0 z ↔ inC h td c z := by
  constructor
  · rintro ⟨x, _, q, e⟩; rw [← show x = z from e]; exact q
  · intro q; exact ⟨z, ⟨h0, h1⟩, q, rfl⟩
theorem crS_s {h a td : Int → Int} {c z : Int} {n : Nat} : crS h a td c (n + 1) z ↔ stepS (nx h a) (h 2) (crS h a td c n) z := by
  constructor
  · rintro ⟨x, b, q, e⟩
    exact ⟨it (nx h a) x n, it_b (nx_rng h a) b.1 b.2 n, ⟨x, b, q, rfl⟩, e⟩
  · rintro ⟨y, _, ⟨x, b, q, e⟩, r⟩
    exact ⟨x, b, q, by rw [← r, ← e]; rfl⟩
/-- a row of yes and no -/
def BS (f : Int → Int) (N : Int) (S : Int → Prop) : Prop := ∀ z : Int, 0 ≤ z → z < N → f z = bC (S z)
theorem BS_step {h a td n13 f : Int → Int} {c : Int} {n : Nat} (q : NXO h a n13) (hb : BS f (h 2) (crS h a td c n)) {f' : Int → Int} (hf : BS f' (h 2) (stepS n13 (h 2) (fun y => f y = 1))) : BS f' (h 2) (crS h a td c (n + 1)) := fun z h0 h1 => by
  rw [hf z h0 h1]
  apply bC_c
  rw [crS_s]
  constructor
  · rintro ⟨x, b, r, e⟩
    have r : f x = 1 := r
    rw [hb x b.1 b.2, bC_1] at r
    exact ⟨x, b, r, by rw [← q x b.1 b.2]; exact e⟩
  · rintro ⟨x, b, r, e⟩
    exact ⟨x, b, by show f x = 1; rw [hb x b.1 b.2, bC_1]; exact r, by rw [q x b.1 b.2]; exact e⟩
/-- marks of what is gone to -/
def GS (g f f18 : Int → Int) (N k : Int) : Prop := ∀ z : Int, 0 ≤ z → z < N → f z = bC (∃ x : Int, (0 ≤ x ∧ x < k) ∧ f18 x = 1 ∧ g x = z)
theorem GS_0 {g f f18 : Int → Int} {N : Int} (h : ∀ z : Int, 0 ≤ z → z < N → f z = 0) : GS g f f18 N 0 := fun z a b => by
  rw [h z a b, bC_f]
  rintro ⟨x, c, _⟩; omega
theorem GS_y {g f f18 : Int → Int} {N k : Int} (h : GS g f f18 N k) (h0 : 0 ≤ k) (hk : f18 k = 1) : GS g (upI f (g k) 1) f18 N (k + 1) := fun z a b => by
  by_cases e : z = g k
  · rw [e, upI_s, bC_t]; exact ⟨k, ⟨h0, by omega⟩, hk, rfl⟩
  · rw [upI_n _ _ e, h z a b]
    apply bC_c
    constructor
    · rintro ⟨x, c, d⟩; exact ⟨x, ⟨c.1, by omega⟩, d⟩
    · rintro ⟨x, c, d, q⟩
      refine ⟨x, ⟨c.1, ?_⟩, d, q⟩
      by_cases w : x = k
      · subst w; exact absurd q.symm e
      · omega
theorem GS_n {g f f18 : Int → Int} {N k : Int} (h : GS g f f18 N k) (hk : ¬ f18 k = 1) : GS g f f18 N (k + 1) := fun z a b => by
  rw [h z a b]
  apply bC_c
  constructor
  · rintro ⟨x, c, d⟩; exact ⟨x, ⟨c.1, by omega⟩, d⟩
  · rintro ⟨x, c, d, q⟩
    refine ⟨x, ⟨c.1, ?_⟩, d, q⟩
    by_cases w : x = k
    · subst w; exact absurd d hk
    · omega
/-- what all have; -1: not all one, or none there -/
def sureR (P : Int → Prop) (d : Int → Int) (r : Int) : Prop := (r = -1 ∧ ((∀ z, ¬ P z) ∨ ∃ z z', P z ∧ P z' ∧ d z ≠ d z')) ∨ (r ≠ -1 ∧ (∃ z, P z) ∧ ∀ z, P z → d z = r)
theorem sureR_u {P : Int → Prop} {d : Int → Int} {r r' : Int} (h : sureR P d r) (h' : sureR P d r') : r = r' := by
  rcases h with ⟨a, b⟩ | ⟨a, ⟨z, b⟩, c⟩
  · rcases h' with ⟨a', b'⟩ | ⟨a', ⟨z', b'⟩, c'⟩
    · omega
    · rcases b with w | ⟨x, y, p, q, e⟩
      · exact absurd b' (w z')
      · exact absurd (by rw [c' x p, c' y q]) e
  · rcases h' with ⟨a', b'⟩ | ⟨a', ⟨z', b'⟩, c'⟩
    · rcases b' with w | ⟨x, y, p, q, e⟩
      · exact absurd b (w z)
      · exact absurd (by rw [c x p, c y q]) e
    · rw [← c z b, ← c' z b]
noncomputable def sureF (P : Int → Prop) (d : Int → Int) : Int := Classical.epsilon (sureR P d)
theorem sureF_eq {P : Int → Prop} {d : Int → Int} {r : Int} (h : sureR P d r) : r = sureF P d := sureR_u h (Classical.epsilon_spec (p := sureR P d) ⟨r, h⟩)
theorem sureR_c {P Q : Int → Prop} {d : Int → Int} {r : Int} (e : ∀ z, P z ↔ Q z) (h : sureR P d r) : sureR Q d r := by
  rw [show Q = P from funext fun z => propext (e z).symm]; exact h
/-- what one has come to know of the first k -/
def SA (P : Int → Prop) (d : Int → Int) (k r : Int) : Prop := (r = -1 ∧ ∀ z : Int, 0 ≤ z → z < k → ¬ P z) ∨ (r ≠ -1 ∧ (∃ z, (0 ≤ z ∧ z < k) ∧ P z) ∧ ∀ z : Int, 0 ≤ z → z < k → P z → d z = r)
theorem SA_0 (P : Int → Prop) (d : Int → Int) : SA P d 0 (-1) := Or.inl ⟨rfl, fun z a b => by omega⟩
theorem SA_n {P : Int → Prop} {d : Int → Int} {k r : Int} (h : SA P d k r) (hk : ¬ P k) : SA P d (k + 1) r := by
  rcases h with ⟨a, b⟩ | ⟨a, ⟨y, e, f⟩, c⟩
  · refine Or.inl ⟨a, fun z p q => ?_⟩
    by_cases e : z = k
    · rw [e]; exact hk
    · exact b z p (by omega)
  · refine Or.inr ⟨a, ⟨y, ⟨e.1, by omega⟩, f⟩, fun z p q r => ?_⟩
    by_cases e : z = k
    · rw [e] at r; exact absurd r hk
    · exact c z p (by omega) r
theorem SA_y {P : Int → Prop} {d : Int → Int} {k r : Int} (h : SA P d k r) (h0 : 0 ≤ k) (hk : P k) (hd : d k ≠ -1) (hr : r = -1 ∨ r = d k) : SA P d (k + 1) (d k) := by
  refine Or.inr ⟨hd, ⟨k, ⟨h0, by omega⟩, hk⟩, fun z p q w => ?_⟩
  by_cases e : z = k
  · rw [e]
  · rcases h with ⟨a, b⟩ | ⟨a, b, c⟩
    · exact absurd w (b z p (by omega))
    · rw [c z p (by omega) w]; omega
theorem SA_bad {P : Int → Prop} {d : Int → Int} {k r : Int} (h : SA P d k r) (hk : P k) (hr : r ≠ -1) (hr2 : r ≠ d k) : sureR P d (-1) := by
  rcases h with ⟨a, b⟩ | ⟨a, ⟨y, e, f⟩, c⟩
  · exact absurd a hr
  · exact Or.inl ⟨rfl, Or.inr ⟨y, k, f, hk, by rw [c y e.1 e.2 f]; exact hr2⟩⟩
theorem SA_end {P : Int → Prop} {d : Int → Int} {k r : Int} (h : SA P d k r) (hP : ∀ z, P z → 0 ≤ z ∧ z < k) : sureR P d r := by
  rcases h with ⟨a, b⟩ | ⟨a, ⟨y, e, f⟩, c⟩
  · exact Or.inl ⟨a, Or.inl (fun z q => b z (hP z q).1 (hP z q).2 q)⟩
  · exact Or.inr ⟨a, ⟨y, f⟩, fun z q => c z (hP z q).1 (hP z q).2 q⟩
/-- those of a row of yes and no -/
def ofB (f : Int → Int) (N : Int) (z : Int) : Prop := (0 ≤ z ∧ z < N) ∧ f z = 1
theorem BS_of {f : Int → Int} {N : Int} {S : Int → Prop} (h : BS f N S) (hS : ∀ z, S z → 0 ≤ z ∧ z < N) (z : Int) : ofB f N z ↔ S z := by
  constructor
  · rintro ⟨a, b⟩; rw [h z a.1 a.2, bC_1] at b; exact b
  · intro q; exact ⟨hS z q, by rw [h z (hS z q).1 (hS z q).2, bC_1]; exact q⟩
theorem crS_in {h a td : Int → Int} {c z : Int} {n : Nat} (q : crS h a td c n z) : 0 ≤ z ∧ z < h 2 := by
  obtain ⟨x, b, _, e⟩ := q
  rw [← e]; exact it_b (nx_rng h a) b.1 b.2 n
theorem BS_cr {h a td f : Int → Int} {c : Int} {n : Nat} (q : BS f (h 2) (crS h a td c n)) (z : Int) : ofB f (h 2) z ↔ crS h a td c n z := BS_of q (fun _ => crS_in) z
theorem tOK_L1 {h : Int → Int} (t : tOK h) (hN : 0 < h 2) : 1 ≤ h 1 := by rcases t with t | t <;> omega
theorem inC_0 {h td : Int → Int} {c x : Int} (e : c = 0) : inC h td c x := Or.inl e
theorem inC_1 {h td : Int → Int} {c x : Int} (e : c = 1) : inC h td c x ↔ ∀ v, cnt (dig (h 0) (h 1) x) v (h 1).toNat ≠ h 1 := by
  unfold inC
  constructor
  · rintro (q | q | q | q)
    · omega
    · omega
    · exact q.2
    · omega
  · exact fun q => Or.inr (Or.inr (Or.inl ⟨e, q⟩))
theorem inC_2 {h td : Int → Int} {c x : Int} (e : c = 2) : inC h td c x ↔ ∀ v, cnt (dig (h 0) (h 1) x) v (h 1).toNat ≤ 1 := by
  unfold inC
  constructor
  · rintro (q | q | q | q)
    · omega
    · omega
    · omega
    · exact q.2
  · exact fun q => Or.inr (Or.inr (Or.inr ⟨e, q⟩))
theorem inC_3 {h td : Int → Int} {c x : Int} (e : c = 3) : inC h td c x ↔ toldP (h 5) td x := by
  unfold inC
  constructor
  · rintro (q | q | q | q)
    · omega
    · exact q.2
    · omega
    · omega
  · exact fun q => Or.inr (Or.inl ⟨e, q⟩)
theorem BS_01 {f : Int → Int} {N : Int} {S : Int → Prop} (h : BS f N S) : ∀ z : Int, 0 ≤ z → z < N → f z = 0 ∨ f z = 1 := fun z a b => by rw [h z a b]; exact bC_01 _
theorem BS_0 {h a td f : Int → Int} {c : Int} (q : BS f (h 2) (inC h td c)) : BS f (h 2) (crS h a td c 0) := fun z a b => by rw [q z a b]; exact bC_c (crS_0 a b).symm
theorem many_z {p : Int → Prop} {n : Nat} (h : many p n = 0) : ∀ i : Int, 0 ≤ i → i < n → ¬ p i := fun i h0 h1 hp => by
  have h2 := many_t h0 hp
  have h3 := many_m p (m := (i + 1).toNat) n (by omega)
  have h4 := many_b p i.toNat
  omega
theorem SA_bad2 {P : Int → Prop} {d : Int → Int} {k r : Int} (h : SA P d k r) (hk : P k) (hr : r ≠ -1) (hr2 : r ≠ d k) : ∃ z z', P z ∧ P z' ∧ d z ≠ d z' := by
  rcases h with ⟨a, b⟩ | ⟨a, ⟨y, e, f⟩, c⟩
  · exact absurd a hr
  · exact ⟨y, k, f, hk, by rw [c y e.1 e.2 f]; exact hr2⟩
theorem SA_good {P : Int → Prop} {d : Int → Int} {k r : Int} (h : SA P d k r) (hP : ∀ z, P z → 0 ≤ z ∧ z < k) : ¬ ∃ z z', P z ∧ P z' ∧ d z ≠ d z' := by
  rintro ⟨z, z', p, q, e⟩
  rcases h with ⟨a, b⟩ | ⟨a, b, c⟩
  · exact b z (hP z p).1 (hP z p).2 p
  · exact e (by rw [c z (hP z p).1 (hP z p).2 p, c z' (hP z' q).1 (hP z' q).2 q])
/-- all leave the same rest -/
def isR (P : Int → Prop) (m : Int) : Prop := ¬ ∃ z z', P z ∧ P z' ∧ z % m ≠ z' % m
theorem isR_c {P Q : Int → Prop} {m : Int} (h : ∀ z, P z ↔ Q z) : isR P m ↔ isR Q m := by rw [show P = Q from funext fun z => propext (h z)]
noncomputable def rSure (ln : Int) (h a td : Int → Int) (c n pl : Int) : Int := if (0 < ln ∧ (0 ≤ c ∧ c ≤ 3) ∧ 0 ≤ n ∧ n ≤ 200) ∧ 0 ≤ pl ∧ pl < h 1 then sureF (crS h a td c n.toNat) (fun z => dig (h 0) (h 1) z pl) else -2
noncomputable def rFewest (ln : Int) (h a td : Int → Int) (c pl : Int) : Int := if (0 < ln ∧ 0 ≤ c ∧ c ≤ 3) ∧ 0 ≤ pl ∧ pl < h 1 then nthF (fun n => sureF (crS h a td c n.toNat) (fun z => dig (h 0) (h 1) z pl) ≠ -1) 201 0 else -2
noncomputable def rLeft (ln : Int) (h a td : Int → Int) (c n : Int) : Int := if 0 < ln ∧ (0 ≤ c ∧ c ≤ 3) ∧ 0 ≤ n ∧ n ≤ 200 then many (crS h a td c n.toNat) (h 2).toNat else -2
def down99 (j : Int) : Int := if j = -1 then -1 else 99 - j
noncomputable def restF (P : Int → Prop) : Int := by classical exact if (∃ z, P z) then down99 (nthF (fun j => isR P (99 - j)) 98 0) else -1
theorem restF_no {P : Int → Prop} (h : ∀ z, ¬ P z) : restF P = -1 := if_neg (fun ⟨z, q⟩ => h z q)
theorem restF_at {P : Int → Prop} {m : Int} (h : ∃ z, P z) (h0 : 2 ≤ m) (h1 : m ≤ 99) (hm : isR P m) (hn : ∀ j : Int, m < j → j ≤ 99 → ¬ isR P j) : restF P = m := by
  have e : nthF (fun j => isR P (99 - j)) 98 0 = 99 - m := (nth_eq (isNth_first (by omega) (by omega) (by show isR P (99 - (99 - m)); rw [show 99 - (99 - m) = m by omega]; exact hm) (fun z a b => hn (99 - z) (by omega) (by omega)))).symm
  unfold restF
  rw [if_pos h, e]; unfold down99; rw [if_neg (by omega)]; omega
theorem restF_none {P : Int → Prop} (h : ∃ z, P z) (hn : ∀ j : Int, 2 ≤ j → j ≤ 99 → ¬ isR P j) : restF P = -1 := by
  have e : nthF (fun j => isR P (99 - j)) 98 0 = -1 := (nth_eq (isNth_nofirst (fun z a b => hn (99 - z) (by omega) (by omega)))).symm
  unfold restF
  rw [if_pos h, e]; rfl
theorem restF_c {P Q : Int → Prop} (h : ∀ z, P z ↔ Q z) : restF P = restF Q := by rw [show P = Q from funext fun z => propext (h z)]
noncomputable def rRest (ln : Int) (h a td : Int → Int) (c n : Int) : Int := if 0 < ln ∧ (0 ≤ c ∧ c ≤ 3) ∧ 0 ≤ n ∧ n ≤ 200 then restF (crS h a td c n.toNat) else -2
theorem sureF_c {P Q : Int → Prop} {d : Int → Int} (e : ∀ z, P z ↔ Q z) : sureF P d = sureF Q d := by rw [show P = Q from funext fun z => propext (e z)]
