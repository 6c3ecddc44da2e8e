/-! plain answers and changes -/
set_option maxRecDepth 100000
def rWord (h a : Int → Int) (i w : Int) : Int := if (0 ≤ i ∧ i < h 3) ∧ 0 ≤ w ∧ w ≤ 1 then a (2 * i + w) else -2
def rTold (h td : Int → Int) (i : Int) : Int := if 0 ≤ i ∧ i < h 5 then td i else -1
def rFault (f p w : Int) : Int := if w = 0 then f else if w = 1 then p else -1
noncomputable def rCount (ln tp : Int) (h wd : Int → Int) (w : Int) : Int := if w = 0 then h 0 else if w = 1 then h 1 else if w = 2 then h 3 else if w = 3 then h 4 else if w = 4 then h 5 else if w = 5 then ln else if w = 6 then tp else if w = 7 then many (fun k => wd k ≠ -1) 4 else -1
def limN (h : Int → Int) (w : Int) : Int := if w = 14 then h 0 - 1 else if 12 ≤ w then 99 else 0
def nowN (w n : Int) : Int := if 12 ≤ w then n else -1
def turnOK (h : Int → Int) (i w n : Int) : Prop := (0 ≤ i ∧ i < h 3) ∧ (0 ≤ w ∧ w ≤ 14) ∧ 0 ≤ n ∧ n ≤ limN h w
noncomputable def turnA (h a : Int → Int) (i w n : Int) : Int → Int := by classical exact if turnOK h i w n then upI (upI a (2 * i) w) (2 * i + 1) (nowN w n) else a
noncomputable def rTurn (h a : Int → Int) (i w n : Int) : Int := by classical exact if turnOK h i w n then (if a (2 * i) ≠ w ∨ a (2 * i + 1) ≠ nowN w n then 1 else 0) else -2
theorem turn_y {h a : Int → Int} {i w n : Int} (q : turnOK h i w n) : turnA h a i w n = upI (upI a (2 * i) w) (2 * i + 1) (nowN w n) ∧ rTurn h a i w n = (if a (2 * i) ≠ w ∨ a (2 * i + 1) ≠ nowN w n then 1 else 0) := ⟨if_pos q, if_pos q⟩
theorem turn_n {h a : Int → Int} {i w n : Int} (q : ¬ turnOK h i w n) : turnA h a i w n = a ∧ rTurn h a i w n = -2 := ⟨if_neg q, if_neg q⟩
theorem turn_lo {h : Int → Int} {i w n : Int} (hw : w < 12) : (turnOK h i w n ↔ (0 ≤ i ∧ i < h 3) ∧ (0 ≤ w ∧ w ≤ 14) ∧ 0 ≤ n ∧ n ≤ 0) ∧ nowN w n = -1 := by
  unfold turnOK limN nowN
  rw [if_neg (by omega), if_neg (by omega), if_neg (by omega)]; exact ⟨Iff.rfl, rfl⟩
theorem turn_14 {h : Int → Int} {i w n : Int} (hw : w = 14) : (turnOK h i w n ↔ (0 ≤ i ∧ i < h 3) ∧ (0 ≤ w ∧ w ≤ 14) ∧ 0 ≤ n ∧ n ≤ h 0 - 1) ∧ nowN w n = n := by
  unfold turnOK limN nowN
  rw [if_pos hw, if_pos (by omega)]; exact ⟨Iff.rfl, rfl⟩
theorem turn_mid {h : Int → Int} {i w n : Int} (hw : 12 ≤ w ∧ w < 14) : (turnOK h i w n ↔ (0 ≤ i ∧ i < h 3) ∧ (0 ≤ w ∧ w ≤ 14) ∧ 0 ≤ n ∧ n ≤ 99) ∧ nowN w n = n := by
  unfold turnOK limN nowN
  rw [if_neg (by omega), if_pos (by omega), if_pos (by omega)]; exact ⟨Iff.rfl, rfl⟩
/-- a byte of an int -/
def byt (v k : Int) : Int := jb8 (jshr v k)
theorem jb8_b (x : Int) : -128 ≤ jb8 x ∧ jb8 x < 128 := by
  unfold jb8
  rw [Int8.toInt_toInt32]
  have a := Int8.le_toInt (Int32.ofInt x).toInt8
  have b := Int8.toInt_lt (Int32.ofInt x).toInt8
  exact ⟨a, b⟩
theorem jb8_id {x : Int} (h : -128 ≤ x) (h1 : x < 128) : jb8 x = x := by
  unfold jb8
  rw [Int8.toInt_toInt32, Int32.toInt8_ofInt, Int8.toInt_ofInt]
  have e : ((Int8.size : Nat) : Int) = 256 := rfl
  exact Int.bmod_eq_of_le (by omega) (by omega)
theorem jb8_jb8 (x : Int) : jb8 (jb8 x) = jb8 x := jb8_id (jb8_b x).1 (jb8_b x).2
/-- four bytes of an int, the first j of them -/
def fourP (t : Int → Int) (p v j : Int) : Int → Int := fun z => if p ≤ z ∧ z < p + j then byt v (24 - 8 * (z - p)) else t z
def fourT (t : Int → Int) (p v : Int) : Int → Int := fourP t p v 4
theorem fourP_0 (t : Int → Int) (p v : Int) : fourP t p v 0 = t := by
  funext z; exact if_neg (by omega)
theorem fourP_s {t : Int → Int} {p v j q x : Int} (h0 : 0 ≤ j) (hq : q = p + j) (hx : x = byt v (24 - 8 * j)) : upI (fourP t p v j) q x = fourP t p v (j + 1) := by
  funext z
  unfold upI fourP
  by_cases e : z = q
  · rw [if_pos e, if_pos (by omega), hx, show z - p = j by omega]
  · rw [if_neg e]
    by_cases w : p ≤ z ∧ z < p + j
    · rw [if_pos w, if_pos (by omega)]
    · rw [if_neg w, if_neg (by omega)]
noncomputable def feedT (t : Int → Int) (p a b c d e : Int) : Int → Int := if p + 20 > 800 then t else fourT (fourT (fourT (fourT (fourT t p a) (p + 4) b) (p + 8) c) (p + 12) d) (p + 16) e
def cutV (v w : Int) : Int := if w = 0 then jb8 (i32 v) else if w = 1 then js16 (i32 v) else if w = 2 then i32 v else v
def rowOK (s w n : Int) : Prop := (0 ≤ s ∧ s ≤ 3) ∧ (0 ≤ w ∧ w ≤ 3) ∧ n ≤ 60
/-- rows: a part of the cells -/
def fillC (c : Int → Int) (p n v : Int) : Int → Int := fun z => if p ≤ z ∧ z < p + n then v else c z
theorem fillC_0 (c : Int → Int) (p v : Int) : c = fillC c p 0 v := by
  funext z; exact (if_neg (by omega)).symm
theorem fillC_s {c : Int → Int} {p n v q : Int} (h0 : 0 ≤ n) (hq : q = p + n) : upI (fillC c p n v) q v = fillC c p (n + 1) v := by
  funext z
  unfold upI fillC
  by_cases e : z = q
  · rw [if_pos e, if_pos (by omega)]
  · rw [if_neg e]
    by_cases w : p ≤ z ∧ z < p + n
    · rw [if_pos w, if_pos (by omega)]
    · rw [if_neg w, if_neg (by omega)]
/-- n cells from p on go to q on -/
def moveC (c d : Int → Int) (p q n : Int) : Int → Int := fun z => if q ≤ z ∧ z < q + n then d (p + (z - q)) else c z
theorem moveC_0 (c d : Int → Int) (p q : Int) : c = moveC c d p q 0 := by
  funext z; exact (if_neg (by omega)).symm
theorem moveC_s {c d : Int → Int} {p q n k v : Int} (h0 : 0 ≤ n) (hk : k = q + n) (hv : v = d (p + n)) : upI (moveC c d p q n) k v = moveC c d p q (n + 1) := by
  funext z
  unfold upI moveC
  by_cases e : z = k
  · rw [if_pos e, if_pos (by omega), hv, show z - q = n by omega]
  · rw [if_neg e]
    by_cases w : q ≤ z ∧ z < q + n
    · rw [if_pos w, if_pos (by omega)]
    · rw [if_neg w, if_neg (by omega)]
theorem moveC_at {c d : Int → Int} {p q n z : Int} (h : ¬ (q ≤ z ∧ z < q + n)) : moveC c d p q n z = c z := if_neg h
/-! the rows of numbers -/
def rwOK (wd mn : Int → Int) : Prop := ∀ k : Int, 0 ≤ k → k < 4 → (-1 ≤ wd k ∧ wd k ≤ 3) ∧ 0 ≤ mn k ∧ mn k ≤ 60
def rowOK' (s w n : Int) : Prop := (0 ≤ s ∧ s ≤ 3) ∧ (0 ≤ w ∧ w ≤ 3) ∧ n ≤ 60 ∧ 0 ≤ n
def rRow (s w n : Int) : Int := if (0 ≤ s ∧ s ≤ 3) ∧ (0 ≤ w ∧ w ≤ 3) ∧ n ≤ 60 then (if n < 0 then -3 else 0) else -2
noncomputable def rowD (s w n : Int) (f g : Int → Int) : Int → Int := by classical exact if rowOK' s w n then f else g
theorem rowD_y {s w n : Int} {f g : Int → Int} (q : rowOK' s w n) : rowD s w n f g = f := if_pos q
theorem rowD_n {s w n : Int} {f g : Int → Int} (q : ¬ rowOK' s w n) : rowD s w n f g = g := if_neg q
def wrOK (wd mn : Int → Int) (s i : Int) : Prop := (0 ≤ s ∧ s ≤ 3) ∧ wd s ≠ -1 ∧ 0 ≤ i ∧ i < mn s
def rWrite (wd mn : Int → Int) (s i : Int) : Int := if 0 ≤ s ∧ s ≤ 3 then (if wd s = -1 then -6 else if 0 ≤ i ∧ i < mn s then 0 else -7) else -2
noncomputable def wrC (wd mn c : Int → Int) (s i v : Int) : Int → Int := by classical exact if wrOK wd mn s i then upI c (60 * s + i) (cutV v (wd s)) else c
theorem wrC_y {wd mn c : Int → Int} {s i v : Int} (q : wrOK wd mn s i) : wrC wd mn c s i v = upI c (60 * s + i) (cutV v (wd s)) := if_pos q
theorem wrC_n {wd mn c : Int → Int} {s i v : Int} (q : ¬ wrOK wd mn s i) : wrC wd mn c s i v = c := if_neg q
def psOK (wd mn : Int → Int) (s i t k n : Int) : Prop := ((0 ≤ s ∧ s ≤ 3) ∧ 0 ≤ t ∧ t ≤ 3) ∧ (wd s ≠ -1 ∧ wd t ≠ -1) ∧ wd s = wd t ∧ 0 ≤ i ∧ 0 ≤ k ∧ 0 ≤ n ∧ i + n ≤ mn s ∧ k + n ≤ mn t
def rPaste (wd mn : Int → Int) (s i t k n : Int) : Int := if (0 ≤ s ∧ s ≤ 3) ∧ 0 ≤ t ∧ t ≤ 3 then
  (if wd s = -1 ∨ wd t = -1 then -6 else if wd s ≠ wd t then -8 else if 0 ≤ i ∧ 0 ≤ k ∧ 0 ≤ n ∧ i + n ≤ mn s ∧ k + n ≤ mn t then 0 else -7) else -2
noncomputable def psC (wd mn c : Int → Int) (s i t k n : Int) : Int → Int := by classical exact if psOK wd mn s i t k n then moveC c c (60 * s + i) (60 * t + k) n else c
theorem psC_y {wd mn c : Int → Int} {s i t k n : Int} (q : psOK wd mn s i t k n) : psC wd mn c s i t k n = moveC c c (60 * s + i) (60 * t + k) n := if_pos q
theorem psC_n {wd mn c : Int → Int} {s i t k n : Int} (q : ¬ psOK wd mn s i t k n) : psC wd mn c s i t k n = c := if_neg q
/-! images -/
def cpT (m a b : Int) (f : Int → Int) : Int → Int := moveC f f (m * a) (m * b) m
