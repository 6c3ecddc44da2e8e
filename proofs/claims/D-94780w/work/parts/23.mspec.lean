/-! THE MATHEMATICS of tables, figures and words -/
set_option maxRecDepth 100000
/-- a table's head: base, figures, numbers, words, slips, told numbers -/
def tOK (h : Int → Int) : Prop := (h 0 = 0 ∧ h 1 = 0 ∧ h 2 = 0 ∧ h 3 = 0 ∧ h 4 = 0 ∧ h 5 = 0) ∨ ((2 ≤ h 0 ∧ h 0 ≤ 16) ∧ (1 ≤ h 1 ∧ h 1 ≤ 8) ∧ (h 2 = h 0 ^ (h 1).toNat ∧ h 2 ≤ 10000) ∧ (0 ≤ h 3 ∧ h 3 ≤ 12) ∧ (0 ≤ h 4 ∧ h 4 ≤ 6) ∧ (0 ≤ h 5 ∧ h 5 ≤ 20))
theorem tOK_L {h : Int → Int} (t : tOK h) : 0 ≤ h 1 ∧ h 1 ≤ 8 := by rcases t with t | t <;> omega
theorem tOK_B {h : Int → Int} (t : tOK h) : 0 ≤ h 0 ∧ h 0 ≤ 16 := by rcases t with t | t <;> omega
theorem tOK_B2 {h : Int → Int} (t : tOK h) (hL : 0 < h 1) : 2 ≤ h 0 := by rcases t with t | t <;> omega
theorem tOK_W {h : Int → Int} (t : tOK h) : 0 ≤ h 3 ∧ h 3 ≤ 12 := by rcases t with t | t <;> omega
theorem tOK_S {h : Int → Int} (t : tOK h) : 0 ≤ h 4 ∧ h 4 ≤ 6 := by rcases t with t | t <;> omega
theorem tOK_T {h : Int → Int} (t : tOK h) : 0 ≤ h 5 ∧ h 5 ≤ 20 := by rcases t with t | t <;> omega
theorem pow_pos' {B : Int} (h : 0 < B) (n : Nat) : 0 < B ^ n := Int.pow_pos h
theorem tOK_N {h : Int → Int} (t : tOK h) : 0 ≤ h 2 ∧ h 2 ≤ 10000 := by
  rcases t with t | t
  · omega
  · have := pow_pos' (B := h 0) (by omega) (h 1).toNat
    omega
def dig (B L x k : Int) : Int := x / B ^ (L - 1 - k).toNat % B
def figs (B L x : Int) (f : Int → Int) : Int → Int := fun z => if 0 ≤ z ∧ z < L then dig B L x z else f z
theorem i32_s {x : Int} (h1 : 0 ≤ x) (h2 : x < 2147483648) : i32 x = x := i32_id (by omega) h2
theorem tdiv_n {a b : Int} (h : 0 ≤ a) : Int.tdiv a b = a / b := Int.tdiv_eq_ediv_of_nonneg h
theorem tmod_n {a b : Int} (h : 0 ≤ a) : Int.tmod a b = a % b := Int.tmod_eq_emod_of_nonneg h
theorem div_le_self' {a b : Int} (h : 0 ≤ a) (hb : 0 ≤ b) : a / b ≤ a := Int.ediv_le_self b h
/-- a row's number by a base -/
def hor (B : Int) (f : Int → Int) : Nat → Int
  | 0 => 0
  | n + 1 => hor B f n * B + f n
theorem hor_b {B : Int} {f : Int → Int} (hB : 0 < B) : ∀ n : Nat, (∀ i : Int, 0 ≤ i → i < n → 0 ≤ f i ∧ f i < B) → 0 ≤ hor B f n ∧ hor B f n < B ^ n
  | 0, _ => by unfold hor; simp
  | n + 1, h => by
    have ih := hor_b hB n (fun i h0 h1 => h i h0 (by omega))
    have h2 := h n (by omega) (by omega)
    unfold hor
    rw [Int.pow_succ]
    have h3 : hor B f n * B ≤ (B ^ n - 1) * B := Int.mul_le_mul_of_nonneg_right (by omega) (by omega)
    have h4 : 0 ≤ hor B f n * B := Int.mul_nonneg ih.1 (by omega)
    rw [Int.sub_mul] at h3
    omega
theorem hor_c {B : Int} {f g : Int → Int} : ∀ n : Nat, (∀ i : Int, 0 ≤ i → i < n → f i = g i) → hor B f n = hor B g n
  | 0, _ => rfl
  | n + 1, h => by
    unfold hor
    rw [hor_c n (fun i h0 h1 => h i h0 (by omega)), h n (by omega) (by omega)]
theorem pow_mono' {B : Int} (hB : 1 ≤ B) {m n : Nat} (h : m ≤ n) : B ^ m ≤ B ^ n := by
  obtain ⟨k, rfl⟩ : ∃ k, n = m + k := ⟨n - m, by omega⟩
  rw [Int.pow_add]
  have h1 := pow_pos' (B := B) (by omega) m
  have h2 := pow_pos' (B := B) (by omega) k
  have h3 : B ^ m * 1 ≤ B ^ m * B ^ k := Int.mul_le_mul_of_nonneg_left (by omega) (by omega)
  omega
/-- a figure -/
theorem dig_in {B L x k : Int} (hB : 0 < B) : 0 ≤ dig B L x k ∧ dig B L x k < B := ⟨Int.emod_nonneg _ (by omega), Int.emod_lt_of_pos _ hB⟩
theorem mulb {v B : Int} (h1 : 0 ≤ v) (h2 : v ≤ 10000) (h3 : 0 ≤ B) (h4 : B ≤ 16) : 0 ≤ v * B ∧ v * B ≤ 160000 := by
  constructor
  · exact Int.mul_nonneg h1 h3
  · have h5 : v * B ≤ 10000 * 16 := Int.mul_le_mul h2 h4 h3 (by omega)
    omega
/-- within a table's figures a number stays small -/
theorem hor_s {h f : Int → Int} (t : tOK h) (hf : ∀ i : Int, 0 ≤ i → i < h 1 → 0 ≤ f i ∧ f i < h 0) {n : Nat} (hn : n ≤ h 1) : 0 ≤ hor (h 0) f n ∧ hor (h 0) f n ≤ 10000 := by
  by_cases h0 : n = 0
  · subst h0; unfold hor; omega
  · have hB := tOK_B2 t (by omega)
    have h1 := hor_b (B := h 0) (f := f) (by omega) n (fun i a b => hf i a (by omega))
    have hL := tOK_L t
    have h2 := pow_mono' (B := h 0) (by omega) (show n ≤ (h 1).toNat by omega)
    have h3 := tOK_N t
    have h4 : h 2 = h 0 ^ (h 1).toNat := by rcases t with t | t <;> omega
    omega
theorem hor_step {h f : Int → Int} (t : tOK h) (hf : ∀ i : Int, 0 ≤ i → i < h 1 → 0 ≤ f i ∧ f i < h 0) {k : Int} (h0 : 0 ≤ k) (h1 : k < h 1) : i32 (i32 (hor (h 0) f k.toNat * h 0) + f k) = hor (h 0) f (k + 1).toNat := by
  have h2 := hor_s t hf (n := k.toNat) (by omega)
  have hB := tOK_B t
  have h3 := mulb h2.1 h2.2 hB.1 hB.2
  have h4 := hf k h0 h1
  rw [i32_id (x := hor (h 0) f k.toNat * h 0) (by omega) (by omega), i32_id (by omega) (by omega), show (k + 1).toNat = k.toNat + 1 by omega]
  show _ = hor (h 0) f k.toNat * h 0 + f (k.toNat : Int)
  rw [show ((k.toNat : Nat) : Int) = k by omega]
theorem hor_N {h f : Int → Int} (t : tOK h) (hL : 0 < h 1) (hf : ∀ i : Int, 0 ≤ i → i < h 1 → 0 ≤ f i ∧ f i < h 0) : 0 ≤ hor (h 0) f (h 1).toNat ∧ hor (h 0) f (h 1).toNat < h 2 := by
  have hB := tOK_B2 t hL
  have h1 := hor_b (B := h 0) (f := f) (by omega) (h 1).toNat (fun i a b => hf i a (by omega))
  have h4 : h 2 = h 0 ^ (h 1).toNat := by rcases t with t | t <;> omega
  omega
/-- counts, rows in order -/
def cnt (g : Int → Int) (v : Int) : Nat → Int
  | 0 => 0
  | n + 1 => cnt g v n + (if g n = v then 1 else 0)
theorem cnt_nn (g : Int → Int) (v : Int) : ∀ n, 0 ≤ cnt g v n
  | 0 => Int.le_refl _
  | n + 1 => by have := cnt_nn g v n; unfold cnt; split <;> omega
theorem cnt_le (g : Int → Int) (v : Int) : ∀ n : Nat, cnt g v n ≤ n
  | 0 => Int.le_refl _
  | n + 1 => by have := cnt_le g v n; unfold cnt; split <;> omega
theorem cnt_c {f g : Int → Int} {v : Int} : ∀ n : Nat, (∀ i : Int, 0 ≤ i → i < n → f i = g i) → cnt f v n = cnt g v n
  | 0, _ => rfl
  | n + 1, h => by
    unfold cnt
    rw [cnt_c n (fun i h0 h1 => h i h0 (by omega)), h n (by omega) (by omega)]
theorem cnt_0 {g : Int → Int} {v : Int} : ∀ n : Nat, (∀ i : Int, 0 ≤ i → i < n → g i ≠ v) → cnt g v n = 0
  | 0, _ => rfl
  | n + 1, h => by
    unfold cnt
    rw [cnt_0 n (fun i h0 h1 => h i h0 (by omega)), if_neg (h n (by omega) (by omega))]; rfl
theorem cnt_pos {g : Int → Int} {v : Int} : ∀ n : Nat, 0 < cnt g v n → ∃ i : Int, 0 ≤ i ∧ i < n ∧ g i = v
  | 0, h => by unfold cnt at h; omega
  | n + 1, h => by
    unfold cnt at h
    by_cases e : g n = v
    · exact ⟨n, by omega, by omega, e⟩
    · rw [if_neg e] at h
      obtain ⟨i, a, b, c⟩ := cnt_pos (g := g) (v := v) n (by omega)
      exact ⟨i, a, by omega, c⟩
theorem cnt_at {g : Int → Int} {i : Int} : ∀ n : Nat, 0 ≤ i → i < n → 0 < cnt g (g i) n
  | 0, h0, h1 => by omega
  | n + 1, h0, h1 => by
    unfold cnt
    have := cnt_nn g (g i) n
    by_cases e : i = n
    · subst e; rw [if_pos rfl]; omega
    · have h9 := cnt_at (g := g) (i := i) n h0 (by omega); split <;> omega
/-- g has the values of f in order, the least first -/
def ascOf (f g : Int → Int) (L : Int) : Prop := (∀ i j : Int, 0 ≤ i → i ≤ j → j < L → g i ≤ g j) ∧ ∀ v, cnt g v L.toNat = cnt f v L.toNat
/-- the number of values below v, of the first n -/
def cntB (g : Int → Int) (v : Int) : Nat → Int
  | 0 => 0
  | n + 1 => cntB g v n + (if g n < v then 1 else 0)
theorem cntB_c {f g : Int → Int} {v : Int} : ∀ n : Nat, (∀ i : Int, 0 ≤ i → i < n → f i = g i) → cntB f v n = cntB g v n
  | 0, _ => rfl
  | n + 1, h => by
    unfold cntB
    rw [cntB_c n (fun i h0 h1 => h i h0 (by omega)), h n (by omega) (by omega)]
theorem cntB_nn (g : Int → Int) (v : Int) : ∀ n, 0 ≤ cntB g v n
  | 0 => Int.le_refl _
  | n + 1 => by have := cntB_nn g v n; unfold cntB; split <;> omega
theorem cntB_le (g : Int → Int) (v : Int) : ∀ n : Nat, cntB g v n ≤ n
  | 0 => Int.le_refl _
  | n + 1 => by have := cntB_le g v n; unfold cntB; split <;> omega
theorem cntB_s (g : Int → Int) (v : Int) : ∀ n : Nat, cntB g (v + 1) n = cntB g v n + cnt g v n
  | 0 => rfl
  | n + 1 => by
    have ih := cntB_s g v n
    unfold cntB cnt
    by_cases h1 : g n < v
    · rw [if_pos (by omega), if_pos h1, if_neg (by omega)]; omega
    · by_cases h2 : g n = v
      · rw [if_pos (by omega), if_neg h1, if_pos h2]; omega
      · rw [if_neg (by omega), if_neg h1, if_neg h2]; omega
theorem cntB_all {g : Int → Int} {v : Int} : ∀ n : Nat, (∀ i : Int, 0 ≤ i → i < n → g i < v) → cntB g v n = n
  | 0, _ => rfl
  | n + 1, h => by
    unfold cntB
    rw [cntB_all n (fun i h0 h1 => h i h0 (by omega)), if_pos (h n (by omega) (by omega))]; omega
theorem cntB_none {g : Int → Int} {v : Int} : ∀ n : Nat, (∀ i : Int, 0 ≤ i → i < n → v ≤ g i) → cntB g v n = 0
  | 0, _ => rfl
  | n + 1, h => by
    have := h n (by omega) (by omega)
    unfold cntB
    rw [cntB_none n (fun i h0 h1 => h i h0 (by omega)), if_neg (by omega)]; rfl
/-- of an ordered row: the values below v come first -/
theorem cntB_ord {g : Int → Int} {v : Int} : ∀ n : Nat, (∀ i j : Int, 0 ≤ i → i ≤ j → j < n → g i ≤ g j) → ∀ i : Int, 0 ≤ i → i < n → (g i < v ↔ i < cntB g v n)
  | 0, _, i, h0, h1 => by omega
  | n + 1, h, i, h0, h1 => by
    have ih := cntB_ord (g := g) (v := v) n (fun i j a b c => h i j a b (by omega))
    have hle := cntB_le g v n
    unfold cntB
    by_cases hn : g n < v
    · have e := cntB_all (g := g) (v := v) n (fun j a b => by have := h j n a (by omega) (by omega); omega)
      rw [if_pos hn, e]
      have := h i n h0 (by omega) (by omega)
      constructor
      · intro _; omega
      · intro _; omega
    · rw [if_neg hn]
      by_cases hi : i = n
      · subst hi
        constructor
        · intro h9; exact absurd h9 hn
        · intro h9; omega
      · have := ih i h0 (by omega)
        rw [Int.add_zero]; exact this
theorem cntB_of_cnt {f g : Int → Int} {n : Nat} (h : ∀ v, cnt g v n = cnt f v n) {lo : Int} (hf : ∀ i : Int, 0 ≤ i → i < n → lo ≤ f i) (hg : ∀ i : Int, 0 ≤ i → i < n → lo ≤ g i) : ∀ k : Nat, cntB g (lo + k) n = cntB f (lo + k) n
  | 0 => by rw [cntB_none n (fun i a b => by have := hg i a b; omega), cntB_none n (fun i a b => by have := hf i a b; omega)]
  | k + 1 => by
    have ih := cntB_of_cnt h hf hg k
    have e : lo + ((k + 1 : Nat) : Int) = lo + k + 1 := by omega
    rw [e, cntB_s, cntB_s, ih, h]
/-- two ordered rows of the same values are one -/
theorem ascOf_eq {f g g' : Int → Int} {L : Int} {lo : Int} (hL : 0 ≤ L) (h : ascOf f g L) (h' : ascOf f g' L) (hf : ∀ i : Int, 0 ≤ i → i < L → lo ≤ f i) : ∀ i : Int, 0 ≤ i → i < L → g i = g' i := by
  have lows : ∀ g, ascOf f g L → ∀ i : Int, 0 ≤ i → i < L → lo ≤ g i := by
    intro g h i h0 h1
    have h2 := cnt_at (g := g) (i := i) L.toNat h0 (by omega)
    rw [h.2] at h2
    obtain ⟨j, a, b, c⟩ := cnt_pos _ h2
    have := hf j a (by omega)
    omega
  have hB : ∀ v : Int, lo ≤ v → cntB g v L.toNat = cntB g' v L.toNat := by
    intro v hv
    have e1 := cntB_of_cnt (f := f) (g := g) (n := L.toNat) h.2 (lo := lo) (fun i a b => hf i a (by omega)) (fun i a b => lows g h i a (by omega)) (v - lo).toNat
    have e2 := cntB_of_cnt (f := f) (g := g') (n := L.toNat) h'.2 (lo := lo) (fun i a b => hf i a (by omega)) (fun i a b => lows g' h' i a (by omega)) (v - lo).toNat
    rw [show lo + ((v - lo).toNat : Int) = v by omega] at e1 e2
    rw [e1, e2]
  intro i h0 h1
  have o1 := fun v => cntB_ord (g := g) (v := v) L.toNat (fun i j a b c => h.1 i j a b (by omega)) i h0 (by omega)
  have o2 := fun v => cntB_ord (g := g') (v := v) L.toNat (fun i j a b c => h'.1 i j a b (by omega)) i h0 (by omega)
  have l1 := lows g h i h0 h1
  have l2 := lows g' h' i h0 h1
  have a1 := o1 (g' i)
  have a2 := o2 (g' i)
  have b1 := o1 (g i)
  have b2 := o2 (g i)
  rw [hB _ l2] at a1
  rw [hB _ l1] at b1
  rcases Int.lt_trichotomy (g i) (g' i) with q | q | q
  · exact absurd (a2.mpr (a1.mp q)) (by omega)
  · exact q
  · exact absurd (b1.mpr (b2.mp q)) (by omega)
/-- the row in order -/
noncomputable def srt (f : Int → Int) (L : Int) : Int → Int := Classical.epsilon (fun g => ascOf f g L)
theorem srt_eq {f g : Int → Int} {L lo : Int} (hL : 0 ≤ L) (h : ascOf f g L) (hf : ∀ i : Int, 0 ≤ i → i < L → lo ≤ f i) : ∀ i : Int, 0 ≤ i → i < L → g i = srt f L i :=
  ascOf_eq hL h (Classical.epsilon_spec (p := fun g => ascOf f g L) ⟨g, h⟩) hf
noncomputable def upv (B L x : Int) : Int := hor B (srt (dig B L x) L) L.toNat
noncomputable def dnv (B L x : Int) : Int := hor B (fun i => srt (dig B L x) L (L - 1 - i)) L.toNat
def trn (B L x : Int) : Int := hor B (fun i => dig B L x (L - 1 - i)) L.toNat
def rot (B L x : Int) : Int := hor B (fun i => dig B L x ((i + 1) % L)) L.toNat
def psum (p : Nat) (f : Int → Int) : Nat → Int
  | 0 => 0
  | n + 1 => psum p f n + f n ^ p
/-- a row's number without the figures d -/
def lof (B d : Int) (f : Int → Int) : Nat → Int
  | 0 => 0
  | n + 1 => if f n = d then lof B d f n else lof B d f n * B + f n
/-- what a word makes of a number, before the rest by all numbers -/
noncomputable def wraw (B L kp x w n : Int) : Int :=
  if w = 0 then dnv B L x else if w = 1 then upv B L x else if w = 2 then trn B L x else if w = 3 then x else if w = 4 then kp else if w = 5 then (if kp < x then x - kp else kp - x) else if w = 6 then x + kp
  else if w = 7 then psum 2 (dig B L x) L.toNat else if w = 8 then psum 3 (dig B L x) L.toNat else if w = 9 then psum 1 (dig B L x) L.toNat else if w = 10 then (if x % 2 = 0 then x / 2 else x)
  else if w = 11 then rot B L x else if w = 12 then x * n else if w = 13 then x + n else lof B n (dig B L x) L.toNat
noncomputable def wdo (h : Int → Int) (kp x w n : Int) : Int := wraw (h 0) (h 1) kp x w n % h 2
def wkp (kp x w : Int) : Int := if w = 3 then x else kp
/-- a word that may stand in a table -/
def wOK (B w n : Int) : Prop := (0 ≤ w ∧ w < 15) ∧ ((w < 12 ∧ n = -1) ∨ (12 ≤ w ∧ w < 14 ∧ 0 ≤ n ∧ n ≤ 99) ∨ (w = 14 ∧ 0 ≤ n ∧ n < B))
def aOK (h a : Int → Int) : Prop := ∀ i : Int, 0 ≤ i → i < h 3 → wOK (h 0) (a (2 * i)) (a (2 * i + 1))
/-- a go's words, one behind another: what is kept, what it has come to -/
noncomputable def thrS (h a : Int → Int) (x : Int) : Nat → Int × Int
  | 0 => (x, x)
  | i + 1 => (wkp (thrS h a x i).1 (thrS h a x i).2 (a (2 * i)), wdo h (thrS h a x i).1 (thrS h a x i).2 (a (2 * i)) (a (2 * i + 1)))
theorem figs_in {h : Int → Int} {x : Int} {f : Int → Int} (t : tOK h) : ∀ i : Int, 0 ≤ i → i < h 1 → 0 ≤ figs (h 0) (h 1) x f i ∧ figs (h 0) (h 1) x f i < h 0 := by
  intro i h0 h1
  unfold figs
  rw [if_pos ⟨h0, h1⟩]
  exact dig_in (by have := tOK_B2 t (by omega); omega)
theorem dig_in' {h : Int → Int} {x : Int} (t : tOK h) : ∀ i : Int, 0 ≤ i → i < h 1 → 0 ≤ dig (h 0) (h 1) x i ∧ dig (h 0) (h 1) x i < h 0 := by
  intro i h0 h1
  exact dig_in (by have := tOK_B2 t (by omega); omega)
theorem figs_at {B L x z : Int} {f : Int → Int} (h0 : 0 ≤ z) (h1 : z < L) : figs B L x f z = dig B L x z := if_pos ⟨h0, h1⟩

def mOrd (f : Int → Int) (n v : Int) : Prop := (∀ i j : Int, 0 ≤ i → i ≤ j → j < n → f i ≤ f j) ∧ ∀ i : Int, 0 ≤ i → i < n → f i < v
theorem cnt_s (g : Int → Int) (v : Int) (n : Nat) : cnt g v (n + 1) = cnt g v n + (if g n = v then 1 else 0) := rfl
theorem cnt_lt {g : Int → Int} {v : Int} {m : Nat} : ∀ n : Nat, m < n → g m = v → cnt g v m + 1 ≤ cnt g v n
  | 0, h, _ => by omega
  | n + 1, h, e => by
    rw [cnt_s g v n]
    by_cases q : m = n
    · subst q; rw [if_pos e]; omega
    · have := cnt_lt (g := g) (v := v) n (by omega) e
      split <;> omega
theorem cnt_up {f : Int → Int} {v x : Int} (n : Nat) : cnt (upI f n x) v (n + 1) = cnt f v n + (if x = v then 1 else 0) := by
  rw [cnt_s, cnt_c (g := f) n (fun i a b => upI_n f x (by omega)), upI_s]
/-- a sorting by counting, under way: figure v, place k -/
def SO (g : Int → Int) (L : Int) (f : Int → Int) (n v k : Int) : Prop := (0 ≤ k ∧ k ≤ L ∧ 0 ≤ n) ∧ n = cntB g v L.toNat + cnt g v k.toNat ∧ mOrd f n (v + 1) ∧ (∀ w, w < v → cnt f w n.toNat = cnt g w L.toNat) ∧ cnt f v n.toNat = cnt g v k.toNat
theorem SO_0 {g : Int → Int} {L : Int} {f : Int → Int} (hL : 0 ≤ L) (hg : ∀ i : Int, 0 ≤ i → i < L → 0 ≤ g i) : SO g L f 0 0 0 := by
  refine ⟨⟨by omega, hL, by omega⟩, ?_, ⟨fun i j a b c => by omega, fun i a b => by omega⟩, fun w h => ?_, rfl⟩
  · rw [cntB_none _ (fun i a b => hg i a (by omega))]; rfl
  · show 0 = _
    rw [cnt_0 _ (fun i a b => by have := hg i a (by omega); omega)]
theorem SO_row {g : Int → Int} {L : Int} {f : Int → Int} {n v : Int} (h : SO g L f n v L) : SO g L f n (v + 1) 0 := by
  obtain ⟨⟨a, b, c⟩, e, o, w, z⟩ := h
  refine ⟨⟨by omega, by omega, c⟩, ?_, ⟨o.1, fun i a b => by have := o.2 i a b; omega⟩, fun u hu => ?_, ?_⟩
  · rw [cntB_s, e]; show _ = _ + 0; omega
  · by_cases q : u = v
    · subst q; exact z
    · exact w u (by omega)
  · show _ = 0
    exact cnt_0 _ (fun i a b => by have := o.2 i a (by omega); omega)
theorem SO_lt {g : Int → Int} {L : Int} {f : Int → Int} {n v k : Int} (h : SO g L f n v k) (hk : k < L) (e : g k = v) : 0 ≤ n ∧ n < L := by
  obtain ⟨⟨a, b, c⟩, e1, o, w, z⟩ := h
  have h1 := cnt_lt (g := g) (v := v) (m := k.toNat) L.toNat (by omega) (by rw [show ((k.toNat : Nat) : Int) = k by omega]; exact e)
  have h2 := cntB_le g (v + 1) L.toNat
  rw [cntB_s] at h2
  omega
theorem SO_hit {g : Int → Int} {L : Int} {f : Int → Int} {n v k : Int} (h : SO g L f n v k) (hk : k < L) (e : g k = v) : SO g L (upI f n v) (n + 1) v (k + 1) := by
  have hl := SO_lt h hk e
  obtain ⟨⟨a, b, c⟩, e1, o, w, z⟩ := h
  have ek : cnt g v (k + 1).toNat = cnt g v k.toNat + 1 := by
    rw [show (k + 1).toNat = k.toNat + 1 by omega]
    show _ + _ = _
    rw [show ((k.toNat : Nat) : Int) = k by omega, if_pos e]
  have en : ∀ u, cnt (upI f n v) u (n + 1).toNat = cnt f u n.toNat + (if v = u then 1 else 0) := by
    intro u
    have := cnt_up (f := f) (v := u) (x := v) n.toNat
    rw [show ((n.toNat : Nat) : Int) = n by omega] at this
    rw [show (n + 1).toNat = n.toNat + 1 by omega]; exact this
  refine ⟨⟨by omega, by omega, by omega⟩, by omega, ⟨fun i j p q r => ?_, fun i p q => ?_⟩, fun u hu => ?_, ?_⟩
  · have h1 := o.1 i j p q
    have h2 := o.2 i p
    unfold upI
    split
    · rw [if_pos (by omega)]; omega
    · split
      · have := h2 (by omega); omega
      · exact h1 (by omega)
  · have h2 := o.2 i p
    unfold upI
    split
    · omega
    · exact h2 (by omega)
  · rw [en, w u hu, if_neg (by omega)]; omega
  · rw [en, ek, z, if_pos rfl]
theorem SO_skip {g : Int → Int} {L : Int} {f : Int → Int} {n v k : Int} (h : SO g L f n v k) (hk : k < L) (e : ¬ g k = v) : SO g L f n v (k + 1) := by
  obtain ⟨⟨a, b, c⟩, e1, o, w, z⟩ := h
  have ek : cnt g v (k + 1).toNat = cnt g v k.toNat := by
    rw [show (k + 1).toNat = k.toNat + 1 by omega]
    show _ + _ = _
    rw [show ((k.toNat : Nat) : Int) = k by omega, if_neg e]; omega
  exact ⟨⟨by omega, by omega, c⟩, by omega, o, w, by omega⟩
theorem SO_end {g : Int → Int} {L : Int} {f : Int → Int} {n v : Int} (h : SO g L f n v 0) (hg : ∀ i : Int, 0 ≤ i → i < L → g i < v) : ascOf g f L := by
  obtain ⟨⟨a, b, c⟩, e1, o, w, z⟩ := h
  rw [cntB_all _ (fun i a b => hg i a (by omega))] at e1
  have e2 : n = L := by have : cnt g v (0 : Int).toNat = 0 := rfl; omega
  subst e2
  refine ⟨fun i j p q r => o.1 i j p q r, fun u => ?_⟩
  rcases Int.lt_trichotomy u v with q | q | q
  · exact w u q
  · subst q; rw [z, cnt_0 n.toNat (fun i a b => by have := hg i a (by omega); omega)]; rfl
  · rw [cnt_0 (g := g) n.toNat (fun i a b => by have := hg i a (by omega); omega), cnt_0 (g := f) n.toNat (fun i a b => by have := o.2 i a (by omega); omega)]
