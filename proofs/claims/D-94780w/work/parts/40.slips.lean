/-! SLIPS, rows of words: the plain law -/
set_option maxRecDepth 100000
def sOK (h sl : Int → Int) : Prop := ∀ i : Int, 0 ≤ i → i < h 4 → wOK (h 0) (sl (4 * i)) (sl (4 * i + 1)) ∧ wOK (h 0) (sl (4 * i + 2)) (sl (4 * i + 3))
/-- the words with a slip's word for the i-th -/
def subA (a sl : Int → Int) (i s : Int) : Int → Int := fun z => if z = 2 * i then sl (4 * s) else if z = 2 * i + 1 then sl (4 * s + 1) else a z
theorem subA_y (a sl : Int → Int) (i s : Int) : subA a sl i s (2 * i) = sl (4 * s) ∧ subA a sl i s (2 * i + 1) = sl (4 * s + 1) := by
  unfold subA
  rw [if_pos rfl, if_neg (by omega), if_pos rfl]; exact ⟨rfl, rfl⟩
theorem subA_n (a sl : Int → Int) {i s k : Int} (h : k ≠ i) : subA a sl i s (2 * k) = a (2 * k) ∧ subA a sl i s (2 * k + 1) = a (2 * k + 1) := by
  unfold subA
  rw [if_neg (by omega), if_neg (by omega), if_neg (by omega), if_neg (by omega)]; exact ⟨rfl, rfl⟩
noncomputable def slpV (h a sl : Int → Int) (x i s : Int) : Int := if a (2 * i) ≠ sl (4 * s + 2) ∨ a (2 * i + 1) ≠ sl (4 * s + 3) then -1 else (thrS h (subA a sl i s) x (h 3).toNat).2
theorem slpV_b {h a sl : Int → Int} {x i s : Int} (h0 : 0 ≤ x) (h1 : x < h 2) : -1 ≤ slpV h a sl x i s ∧ slpV h a sl x i s < h 2 := by
  have := (thrS_b (a := subA a sl i s) ⟨h0, h1⟩ (h 3).toNat).2
  unfold slpV; split <;> omega
noncomputable def rSlip (h a sl : Int → Int) (x i s : Int) : Int := if (0 ≤ x ∧ x < h 2) ∧ (0 ≤ i ∧ i < h 3) ∧ 0 ≤ s ∧ s < h 4 then (if slpV h a sl x i s = -1 then -2 else slpV h a sl x i s) else -2
noncomputable def rFits (h a sl : Int → Int) (x y : Int) : Int := if (0 ≤ x ∧ x < h 2) ∧ 0 ≤ y ∧ y < h 2 then sumI (fun i => many (fun s => slpV h a sl x i s = y) (h 4).toNat) (h 3).toNat else -2
/-- the first pair -/
def slipAt (h a sl : Int → Int) (x y i : Int) : Prop := ∃ s : Int, (0 ≤ s ∧ s < h 4) ∧ slpV h a sl x i s = y
noncomputable def whichI (h a sl : Int → Int) (x y : Int) : Int := nthF (slipAt h a sl x y) (h 3) 0
noncomputable def rWhich (h a sl : Int → Int) (x y : Int) : Int := if (0 ≤ x ∧ x < h 2) ∧ 0 ≤ y ∧ y < h 2 then
  (if whichI h a sl x y = -1 then -1 else 10 * whichI h a sl x y + nthF (fun s => slpV h a sl x (whichI h a sl x y) s = y) (h 4) 0) else -2
theorem sum_b {f : Int → Int} {m : Int} : ∀ n : Nat, (∀ i : Int, 0 ≤ i → i < n → 0 ≤ f i ∧ f i ≤ m) → 0 ≤ sumI f n ∧ sumI f n ≤ m * n
  | 0, _ => by unfold sumI; omega
  | n + 1, h => by
    have ih := sum_b n (fun i a b => h i a (by omega))
    have := h n (by omega) (by omega)
    unfold sumI
    rw [show m * ((n + 1 : Nat) : Int) = m * n + m by rw [Int.natCast_succ, Int.mul_add, Int.mul_one]]
    omega
/-- rows of plain words -/
def rowA (n r : Int) : Int → Int := fun z => if z % 2 = 0 then r / 12 ^ (n - 1 - z / 2).toNat % 12 else -1
noncomputable def rowV (h : Int → Int) (x n r : Int) : Int := (thrS h (rowA n r) x n.toNat).2
theorem rowA_at (n r k : Int) : rowA n r (2 * k) = r / 12 ^ (n - 1 - k).toNat % 12 ∧ rowA n r (2 * k + 1) = -1 := by
  unfold rowA
  rw [if_pos (by omega), if_neg (by omega), show 2 * k / 2 = k by omega]; exact ⟨rfl, rfl⟩
theorem row_dig {r j : Int} (h0 : 0 ≤ r) (hj : 0 ≤ j) (h1 : j ≤ 2) : i32 (Int.tdiv (r % 12 ^ (j + 1).toNat) (12 ^ j.toNat)) = r / 12 ^ j.toNat % 12 ∧ i32 (Int.tmod (r % 12 ^ (j + 1).toNat) (12 ^ j.toNat)) = r % 12 ^ j.toNat ∧ (12 : Int) ^ j.toNat ≠ 0 := by
  have hc : j = 0 ∨ j = 1 ∨ j = 2 := by omega
  rcases hc with rfl | rfl | rfl
  · show i32 (Int.tdiv (r % 12) 1) = r / 1 % 12 ∧ i32 (Int.tmod (r % 12) 1) = r % 1 ∧ (1 : Int) ≠ 0
    rw [tdiv_n (by omega), tmod_n (by omega), i32_s (x := r % 12 / 1) (by omega) (by omega), i32_s (by omega) (by omega)]; omega
  · show i32 (Int.tdiv (r % 144) 12) = r / 12 % 12 ∧ i32 (Int.tmod (r % 144) 12) = r % 12 ∧ (12 : Int) ≠ 0
    rw [tdiv_n (by omega), tmod_n (by omega), i32_s (by omega) (by omega), i32_s (by omega) (by omega)]; omega
  · show i32 (Int.tdiv (r % 1728) 144) = r / 144 % 12 ∧ i32 (Int.tmod (r % 1728) 144) = r % 144 ∧ (144 : Int) ≠ 0
    rw [tdiv_n (by omega), tmod_n (by omega), i32_s (by omega) (by omega), i32_s (by omega) (by omega)]; omega
theorem row_by {j : Int} (hj : 0 ≤ j) (h1 : j ≤ 2) : (1 ≤ j → i32 (Int.tdiv (12 ^ j.toNat) 12) = 12 ^ (j - 1).toNat) ∧ i32 (12 ^ j.toNat * 12) = 12 ^ (j + 1).toNat ∧ (12 : Int) ^ j.toNat ≤ 144 := by
  have hc : j = 0 ∨ j = 1 ∨ j = 2 := by omega
  rcases hc with rfl | rfl | rfl <;> refine ⟨fun h => ?_, ?_, ?_⟩ <;> first | omega | decide
theorem row_by3 {j : Int} (hj : 0 ≤ j) (h1 : j ≤ 3) : i32 (12 ^ j.toNat * 12) = 12 ^ (j + 1).toNat ∧ (12 : Int) ^ j.toNat ≤ 1728 := by
  have hc : j = 0 ∨ j = 1 ∨ j = 2 ∨ j = 3 := by omega
  rcases hc with rfl | rfl | rfl | rfl <;> refine ⟨?_, ?_⟩ <;> decide
/-- whether a row of n plain words makes y of x -/
def hasRow (h : Int → Int) (x y n : Int) : Prop := ∃ r : Int, (0 ≤ r ∧ r < 12 ^ n.toNat) ∧ rowV h x n r = y
noncomputable def fndM (h : Int → Int) (x y : Int) : Int := nthF (hasRow h x y) 4 0
noncomputable def fndR (h : Int → Int) (x y : Int) : Int := nthF (fun r => rowV h x (fndM h x y) r = y) (12 ^ (fndM h x y).toNat) 0
noncomputable def rFind (h : Int → Int) (x y : Int) : Int := if (0 ≤ x ∧ x < h 2) ∧ 0 ≤ y ∧ y < h 2 then fndM h x y else -2
noncomputable def rFound (h : Int → Int) (x y i : Int) : Int := if (0 ≤ x ∧ x < h 2) ∧ 0 ≤ y ∧ y < h 2 then
  (if 0 ≤ i ∧ i < fndM h x y then fndR h x y / 12 ^ (fndM h x y - 1 - i).toNat % 12 else -1) else -2
theorem fndM_at {h : Int → Int} {x y n : Int} (h0 : 0 ≤ n) (h1 : n < 4) (hr : hasRow h x y n) (hn : ∀ m : Int, 0 ≤ m → m < n → ¬ hasRow h x y m) : fndM h x y = n := (nth_eq (isNth_first h0 h1 hr hn)).symm
theorem fndM_no {h : Int → Int} {x y : Int} (hn : ∀ m : Int, 0 ≤ m → m < 4 → ¬ hasRow h x y m) : fndM h x y = -1 := (nth_eq (isNth_nofirst hn)).symm
theorem fndM_b (h : Int → Int) (x y : Int) : -1 ≤ fndM h x y ∧ fndM h x y < 4 := by
  by_cases q : ∃ n : Nat, n < 4 ∧ hasRow h x y n
  · obtain ⟨n, a, b⟩ := q
    obtain ⟨m, c, d⟩ := leastOf_ex (p := fun n : Nat => hasRow h x y n) n b
    have := fndM_at (n := (m : Int)) (by omega) (by omega) c.1 (fun k e f g => c.2 k.toNat (by omega) (by show hasRow h x y (k.toNat : Int); rw [show ((k.toNat : Nat) : Int) = k by omega]; exact g))
    omega
  · have := fndM_no (h := h) (x := x) (y := y) (fun m e f g => q ⟨m.toNat, by omega, by rw [show ((m.toNat : Nat) : Int) = m by omega]; exact g⟩)
    omega
theorem fndR_at {h : Int → Int} {x y n r : Int} (e : fndM h x y = n) (h0 : 0 ≤ r) (h1 : r < 12 ^ n.toNat) (hr : rowV h x n r = y) (hn : ∀ z : Int, 0 ≤ z → z < r → rowV h x n z ≠ y) : fndR h x y = r := by
  unfold fndR
  rw [e]
  exact (nth_eq (isNth_first (p := fun r => rowV h x n r = y) h0 h1 hr hn)).symm
theorem row_dd {r j : Int} (h0 : 0 ≤ r) (h2 : r < 1728) (hj : 0 ≤ j) (h1 : j ≤ 2) : i32 (Int.tdiv (r / 12 ^ j.toNat) 12) = r / 12 ^ (j + 1).toNat ∧ i32 (Int.tmod (r / 12 ^ j.toNat) 12) = r / 12 ^ j.toNat % 12 := by
  have hc : j = 0 ∨ j = 1 ∨ j = 2 := by omega
  rcases hc with rfl | rfl | rfl
  · show i32 (Int.tdiv (r / 1) 12) = r / 12 ∧ i32 (Int.tmod (r / 1) 12) = r / 1 % 12
    rw [tdiv_n (by omega), tmod_n (by omega), i32_s (by omega) (by omega), i32_s (by omega) (by omega)]; omega
  · show i32 (Int.tdiv (r / 12) 12) = r / 144 ∧ i32 (Int.tmod (r / 12) 12) = r / 12 % 12
    rw [tdiv_n (by omega), tmod_n (by omega), i32_s (by omega) (by omega), i32_s (by omega) (by omega)]; omega
  · show i32 (Int.tdiv (r / 144) 12) = r / 1728 ∧ i32 (Int.tmod (r / 144) 12) = r / 144 % 12
    rw [tdiv_n (by omega), tmod_n (by omega), i32_s (by omega) (by omega), i32_s (by omega) (by omega)]; omega
theorem row_lt {r j : Int} (h : r < 12 ^ j.toNat) (h0 : 0 ≤ j) (h1 : j ≤ 3) : r < 1728 := by
  have := (row_by3 h0 h1).2; omega
