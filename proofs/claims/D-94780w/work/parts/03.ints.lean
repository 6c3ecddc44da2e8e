/-! INTEGERS: the machine's ints and longs as integers; abstract values -/
set_option maxRecDepth 100000
def i32 (x : Int) : Int := Int.bmod x 4294967296
def i64 (x : Int) : Int := Int.bmod x 18446744073709551616
def okI (x : Int) : Prop := -2147483648 ≤ x ∧ x < 2147483648
def okL (x : Int) : Prop := -9223372036854775808 ≤ x ∧ x < 9223372036854775808
theorem i32_ok (x : Int) : okI (i32 x) := by
  have h1 := Int.le_bmod (x := x) (m := 4294967296) (by decide)
  have h2 := Int.bmod_lt (x := x) (m := 4294967296) (by decide)
  exact ⟨by unfold i32; omega, by unfold i32; omega⟩
theorem i64_ok (x : Int) : okL (i64 x) := by
  have h1 := Int.le_bmod (x := x) (m := 18446744073709551616) (by decide)
  have h2 := Int.bmod_lt (x := x) (m := 18446744073709551616) (by decide)
  exact ⟨by unfold i64; omega, by unfold i64; omega⟩
theorem i32_id {x : Int} (h1 : -2147483648 ≤ x) (h2 : x < 2147483648) : i32 x = x := by
  unfold i32; exact Int.bmod_eq_of_le (by omega) (by omega)
theorem i64_id {x : Int} (h1 : -9223372036854775808 ≤ x) (h2 : x < 9223372036854775808) : i64 x = x := by
  unfold i64; exact Int.bmod_eq_of_le (by omega) (by omega)
theorem i32_of (x : Int) : Int32.ofInt (i32 x) = Int32.ofInt x := by
  apply Int32.toInt_inj.mp
  rw [Int32.toInt_ofInt, Int32.toInt_ofInt]
  show Int.bmod (Int.bmod x 4294967296) 4294967296 = Int.bmod x 4294967296
  exact Int.bmod_bmod
theorem i64_of (x : Int) : Int64.ofInt (i64 x) = Int64.ofInt x := by
  apply Int64.toInt_inj.mp
  rw [Int64.toInt_ofInt, Int64.toInt_ofInt]
  show Int.bmod (Int.bmod x 18446744073709551616) 18446744073709551616 = Int.bmod x 18446744073709551616
  exact Int.bmod_bmod
theorem toI_of {x : Int} (h : okI x) : (Int32.ofInt x).toInt = x := by
  obtain ⟨h1, h2⟩ := h
  exact Int32.toInt_ofInt_of_le (by omega) (by omega)
theorem toL_of {x : Int} (h : okL x) : (Int64.ofInt x).toInt = x := by
  obtain ⟨h1, h2⟩ := h
  exact Int64.toInt_ofInt_of_le (by omega) (by omega)
theorem okI_toInt (x : Int32) : okI x.toInt := by
  have h1 := x.le_toInt
  have h2 := x.toInt_lt
  exact ⟨by omega, by omega⟩
theorem okL_toInt (x : Int64) : okL x.toInt := by
  have h1 := x.le_toInt
  have h2 := x.toInt_lt
  exact ⟨by omega, by omega⟩
theorem ofI_eq {x y : Int} (hx : okI x) (hy : okI y) : Int32.ofInt x = Int32.ofInt y ↔ x = y := by
  rw [← Int32.toInt_inj, toI_of hx, toI_of hy]
theorem ofL_eq {x y : Int} (hx : okL x) (hy : okL y) : Int64.ofInt x = Int64.ofInt y ↔ x = y := by
  rw [← Int64.toInt_inj, toL_of hx, toL_of hy]
theorem ofI_lt {x y : Int} (hx : okI x) (hy : okI y) : Int32.ofInt x < Int32.ofInt y ↔ x < y := by
  rw [Int32.lt_iff_toInt_lt, toI_of hx, toI_of hy]
theorem ofI_le {x y : Int} (hx : okI x) (hy : okI y) : Int32.ofInt x ≤ Int32.ofInt y ↔ x ≤ y := by
  rw [Int32.le_iff_toInt_le, toI_of hx, toI_of hy]
theorem ofL_lt {x y : Int} (hx : okL x) (hy : okL y) : Int64.ofInt x < Int64.ofInt y ↔ x < y := by
  rw [Int64.lt_iff_toInt_lt, toL_of hx, toL_of hy]
theorem okI_0 : okI 0 := ⟨by omega, by omega⟩
theorem okL_0 : okL 0 := ⟨by omega, by omega⟩
theorem ofI_eq0 {x : Int} (hx : okI x) : Int32.ofInt x = 0 ↔ x = 0 := ofI_eq hx okI_0
theorem ofI_lt0 {x : Int} (hx : okI x) : Int32.ofInt x < 0 ↔ x < 0 := ofI_lt hx okI_0
theorem ofI_0lt {x : Int} (hx : okI x) : 0 < Int32.ofInt x ↔ 0 < x := ofI_lt okI_0 hx
theorem ofI_le0 {x : Int} (hx : okI x) : Int32.ofInt x ≤ 0 ↔ x ≤ 0 := ofI_le hx okI_0
theorem ofI_0le {x : Int} (hx : okI x) : 0 ≤ Int32.ofInt x ↔ 0 ≤ x := ofI_le okI_0 hx
theorem ofL_eq0 {x : Int} (hx : okL x) : Int64.ofInt x = 0 ↔ x = 0 := ofL_eq hx okL_0
/-- the machine's own operations on bits -/
def jand (a b : Int) : Int := (Int32.ofInt a &&& Int32.ofInt b).toInt
def jor (a b : Int) : Int := (Int32.ofInt a ||| Int32.ofInt b).toInt
def jshl (a b : Int) : Int := (Int32.ofInt a <<< (Int32.ofInt b &&& 31)).toInt
def jshr (a b : Int) : Int := (Int32.ofInt a >>> (Int32.ofInt b &&& 31)).toInt
def jushr (a b : Int) : Int := (((Int32.ofInt a).toUInt32 >>> ((Int32.ofInt b).toUInt32 &&& Int32.toUInt32 31)).toInt32).toInt
def jlshl (a b : Int) : Int := (Int64.ofInt a <<< ((Int32.ofInt b).toInt64 &&& 63)).toInt
def jland (a b : Int) : Int := (Int64.ofInt a &&& Int64.ofInt b).toInt
def jlor (a b : Int) : Int := (Int64.ofInt a ||| Int64.ofInt b).toInt
def jb8 (x : Int) : Int := (Int32.ofInt x).toInt8.toInt32.toInt
def js16 (x : Int) : Int := (Int32.ofInt x).toInt16.toInt32.toInt
def jc16 (x : Int) : Int := ((Int32.ofInt x).toUInt32 % 65536).toInt32.toInt
def jcmp (a b : Int) : Int := if a > b then 1 else if a = b then 0 else -1
theorem of_toI (x : Int32) : Int32.ofInt x.toInt = x := Int32.ofInt_toInt x
theorem of_toL (x : Int64) : Int64.ofInt x.toInt = x := Int64.ofInt_toInt x
theorem okI_jand (a b : Int) : okI (jand a b) := okI_toInt _
theorem okI_jor (a b : Int) : okI (jor a b) := okI_toInt _
theorem okI_jshl (a b : Int) : okI (jshl a b) := okI_toInt _
theorem okI_jshr (a b : Int) : okI (jshr a b) := okI_toInt _
theorem okI_jushr (a b : Int) : okI (jushr a b) := okI_toInt _
theorem okL_jlshl (a b : Int) : okL (jlshl a b) := okL_toInt _
theorem okL_jland (a b : Int) : okL (jland a b) := okL_toInt _
theorem okL_jlor (a b : Int) : okL (jlor a b) := okL_toInt _
theorem okI_jb8 (x : Int) : okI (jb8 x) := okI_toInt _
theorem okI_js16 (x : Int) : okI (js16 x) := okI_toInt _
theorem okI_jc16 (x : Int) : okI (jc16 x) := okI_toInt _
theorem okI_jcmp (a b : Int) : okI (jcmp a b) := by
  unfold jcmp; split
  · exact ⟨by omega, by omega⟩
  · split <;> exact ⟨by omega, by omega⟩
theorem okI_okL {x : Int} (h : okI x) : okL x := by obtain ⟨h1, h2⟩ := h; exact ⟨by omega, by omega⟩
/-- the quotient and the rest of the machine, of ints -/
theorem ofI_div {x y : Int} (hx : okI x) (hy : okI y) : Int32.ofInt x / Int32.ofInt y = Int32.ofInt (i32 (x.tdiv y)) := by
  rw [i32_of, Int32.ofInt_tdiv hx.1 (by have := hx.2; show x ≤ 2147483647; omega) hy.1 (by have := hy.2; show y ≤ 2147483647; omega)]
theorem ofI_rem {x y : Int} (hx : okI x) (hy : okI y) : Int32.ofInt x - Int32.ofInt x / Int32.ofInt y * Int32.ofInt y = Int32.ofInt (i32 (x.tmod y)) := by
  rw [ofI_div hx hy, i32_of, i32_of, ← Int32.ofInt_mul, ← Int32.ofInt_sub, Int.tmod_def, Int.mul_comm]
theorem ofL_div {x y : Int} (hx : okL x) (hy : okL y) : Int64.ofInt x / Int64.ofInt y = Int64.ofInt (i64 (x.tdiv y)) := by
  rw [i64_of, Int64.ofInt_tdiv hx.1 (by have := hx.2; show x ≤ 9223372036854775807; omega) hy.1 (by have := hy.2; show y ≤ 9223372036854775807; omega)]
theorem ofL_rem {x y : Int} (hx : okL x) (hy : okL y) : Int64.ofInt x - Int64.ofInt x / Int64.ofInt y * Int64.ofInt y = Int64.ofInt (i64 (x.tmod y)) := by
  rw [ofL_div hx hy, i64_of, i64_of, ← Int64.ofInt_mul, ← Int64.ofInt_sub, Int.tmod_def, Int.mul_comm]
theorem ofI_i2l {x : Int} (hx : okI x) : (Int32.ofInt x).toInt64 = Int64.ofInt x := by
  apply Int64.toInt_inj.mp
  rw [Int32.toInt_toInt64, toI_of hx, toL_of (okI_okL hx)]
theorem ofL_l2i {x : Int} (hx : okL x) : (Int64.ofInt x).toInt32 = Int32.ofInt (i32 x) := by
  apply Int32.toInt_inj.mp
  rw [Int64.toInt_toInt32, toL_of hx, toI_of (i32_ok x)]
  rfl
theorem ofL_cmp {x y : Int} (hx : okL x) (hy : okL y) : lg_cmp (Int64.ofInt x) (Int64.ofInt y) = Int32.ofInt (jcmp x y) := by
  unfold lg_cmp jcmp
  simp only [gt_iff_lt, ofL_lt hy hx, ofL_eq hx hy]
  split
  · rfl
  · split <;> rfl
/-- clamped places -/
theorem ofI_clamp {x : Int} (hx : okI x) (h0 : 0 ≤ x) : (Int32.ofInt x).toNatClampNeg = x.toNat := by
  show (Int32.ofInt x).toInt.toNat = _
  rw [toI_of hx]
theorem ofI_in {x : Int} {n : Nat} (hx : okI x) (h0 : 0 ≤ x) (h1 : x < n) : vp_in (Int32.ofInt x) n := by
  rw [vp_in_iff, toI_of hx]
  exact ⟨h0, h1⟩
theorem ofI_ofNat (n : Nat) : Int32.ofNat n = Int32.ofInt n := (Int32.ofInt_eq_ofNat ..).symm
/-! abstract values: ints, longs, null, a place -/
abbrev AV : Type := (Int ⊕ Int) ⊕ Option Nat
abbrev vI (x : Int) : AV := Sum.inl (Sum.inl x)
abbrev vL (x : Int) : AV := Sum.inl (Sum.inr x)
abbrev vN : AV := Sum.inr none
abbrev vR (p : Nat) : AV := Sum.inr (some p)
def trv (ad : Nat → Nat) : AV → Value
  | .inl (.inl x) => .int (Int32.ofInt x)
  | .inl (.inr x) => .long (Int64.ofInt x)
  | .inr none => .null
  | .inr (some p) => .ref (ad p)
def okv (n : Nat) : AV → Prop
  | .inl (.inl x) => okI x
  | .inl (.inr x) => okL x
  | .inr none => True
  | .inr (some p) => p < n
theorem okv_mono {n k : Nat} (h : n ≤ k) {v : AV} (hv : okv n v) : okv k v := by
  match v, hv with
  | .inl (.inl x), hv => exact hv
  | .inl (.inr x), hv => exact hv
  | .inr none, hv => trivial
  | .inr (some p), hv => exact Nat.lt_of_lt_of_le hv h
theorem trv_ext {n : Nat} {a b : Nat → Nat} (h : ∀ q, q < n → b q = a q) {v : AV} (hv : okv n v) : trv b v = trv a v := by
  match v, hv with
  | .inl (.inl x), hv => rfl
  | .inl (.inr x), hv => rfl
  | .inr none, hv => rfl
  | .inr (some p), hv => show Value.ref (b p) = Value.ref (a p); rw [h p hv]
/-- words of the stack that a value takes -/
def vcat : AV → Nat
  | .inl (.inr _) => 2
  | _ => 1
theorem trv_cat (ad : Nat → Nat) (v : AV) : (trv ad v).category = vcat v := by
  match v with
  | .inl (.inl x) => rfl
  | .inl (.inr x) => rfl
  | .inr none => rfl
  | .inr (some p) => rfl
/-- the locals: those that are known, by their places -/
abbrev LV : Type := List (Nat × AV)
def trl (ad : Nat → Nat) (ls : LV) : List (Nat × Value) := ls.map fun q => (q.1, trv ad q.2)
def okls (n : Nat) (ls : LV) : Prop := ∀ q ∈ ls, okv n q.2
def oks (n : Nat) (st : List AV) : Prop := ∀ v ∈ st, okv n v
def alook : LV → Nat → Option AV
  | [], _ => none
  | (j, v) :: r, i => match Nat.beq j i with
    | true => some v
    | false => alook r i
theorem alook_mem {ls : LV} {i : Nat} {v : AV} (h : alook ls i = some v) : (i, v) ∈ ls := by
  induction ls with
  | nil => cases h
  | cons q r ih =>
    obtain ⟨j, w⟩ := q
    unfold alook at h
    split at h
    · rename_i e
      cases h
      rw [Nat.eq_of_beq_eq_true e]
      exact List.mem_cons_self
    · exact List.mem_cons_of_mem _ (ih h)
/-- the known locals behind a store of one word at i -/
def adrop1 (i : Nat) : LV → LV
  | [] => []
  | (j, w) :: r => match Nat.beq j i || (Nat.beq (j + 1) i && Nat.beq (vcat w) 2) with
    | true => adrop1 i r
    | false => (j, w) :: adrop1 i r
def adrop2 (i : Nat) : LV → LV
  | [] => []
  | (j, w) :: r => match Nat.beq j i || Nat.beq j (i + 1) || (Nat.beq (j + 1) i && Nat.beq (vcat w) 2) with
    | true => adrop2 i r
    | false => (j, w) :: adrop2 i r
/-- a pair into its place, by the order of places -/
def ains (i : Nat) (v : AV) : LV → LV
  | [] => [(i, v)]
  | (j, w) :: r => match Nat.ble i j with
    | true => (i, v) :: (j, w) :: r
    | false => (j, w) :: ains i v r
theorem adrop1_sub {i : Nat} {ls : LV} {q : Nat × AV} (h : q ∈ adrop1 i ls) : q ∈ ls ∧ ¬ q.1 = i ∧ ¬ (q.1 + 1 = i ∧ vcat q.2 = 2) := by
  induction ls with
  | nil => cases h
  | cons a r ih =>
    obtain ⟨j, w⟩ := a
    unfold adrop1 at h
    split at h
    · exact ⟨List.mem_cons_of_mem _ (ih h).1, (ih h).2⟩
    · rename_i e
      rcases List.mem_cons.mp h with rfl | h
      · refine ⟨List.mem_cons_self, fun x => ?_, fun x => ?_⟩
        · have x : j = i := x
          subst x; simp at e
        · obtain ⟨x1, x2⟩ := x
          have x1 : j + 1 = i := x1
          have x2 : vcat w = 2 := x2
          subst x1; simp [x2] at e
      · exact ⟨List.mem_cons_of_mem _ (ih h).1, (ih h).2⟩
theorem adrop2_sub {i : Nat} {ls : LV} {q : Nat × AV} (h : q ∈ adrop2 i ls) : q ∈ ls ∧ ¬ q.1 = i ∧ ¬ q.1 = i + 1 ∧ ¬ (q.1 + 1 = i ∧ vcat q.2 = 2) := by
  induction ls with
  | nil => cases h
  | cons a r ih =>
    obtain ⟨j, w⟩ := a
    unfold adrop2 at h
    split at h
    · exact ⟨List.mem_cons_of_mem _ (ih h).1, (ih h).2⟩
    · rename_i e
      rcases List.mem_cons.mp h with rfl | h
      · refine ⟨List.mem_cons_self, fun x => ?_, fun x => ?_, fun x => ?_⟩
        · have x : j = i := x
          subst x; simp at e
        · have x : j = i + 1 := x
          subst x; simp at e
        · obtain ⟨x1, x2⟩ := x
          have x1 : j + 1 = i := x1
          have x2 : vcat w = 2 := x2
          subst x1; simp [x2] at e
      · exact ⟨List.mem_cons_of_mem _ (ih h).1, (ih h).2⟩
theorem ains_mem {i : Nat} {v : AV} {ls : LV} {q : Nat × AV} (h : q ∈ ains i v ls) : q = (i, v) ∨ q ∈ ls := by
  induction ls with
  | nil => exact Or.inl (List.mem_singleton.mp h)
  | cons a r ih =>
    obtain ⟨j, w⟩ := a
    unfold ains at h
    split at h
    · rcases List.mem_cons.mp h with e | e
      · exact Or.inl e
      · exact Or.inr e
    · rcases List.mem_cons.mp h with e | e
      · exact Or.inr (e ▸ List.mem_cons_self)
      · rcases ih e with e | e
        · exact Or.inl e
        · exact Or.inr (List.mem_cons_of_mem _ e)
def aset1 (ls : LV) (i : Nat) (v : AV) : LV := ains i v (adrop1 i ls)
def aset2 (ls : LV) (i : Nat) (v : AV) : LV := ains i v (adrop2 i ls)
theorem trl_mem {ad : Nat → Nat} {ls : LV} {i : Nat} {v : AV} (h : (i, v) ∈ ls) : (i, trv ad v) ∈ trl ad ls := List.mem_map.mpr ⟨(i, v), h, rfl⟩
theorem lv_less {ls : Array Slot} {nL : Nat} {l l' : List (Nat × Value)} (h : lv_has ls nL l) (hl : ∀ q ∈ l', q ∈ l) : lv_has ls nL l' := ⟨h.1, h.2.1, fun q hq => h.2.2 q (hl q hq)⟩
theorem trl_less {ad : Nat → Nat} {l l' : LV} (h : ∀ q ∈ l', q ∈ l) : ∀ q ∈ trl ad l', q ∈ trl ad l := by
  intro q hq
  obtain ⟨z, hz, rfl⟩ := List.mem_map.mp hq
  exact List.mem_map.mpr ⟨z, h z hz, rfl⟩
theorem aset1_has {lr : Array Slot} {nL : Nat} {ad : Nat → Nat} {ls : LV} {i : Nat} {v : AV} (h : lv_has lr nL ((i, trv ad v) :: (trl ad ls).filter (fun q => !(q.1 == i) && !(q.1 + 1 == i && q.2.category == 2)))) : lv_has lr nL (trl ad (aset1 ls i v)) := by
  refine lv_less h fun q hq => ?_
  obtain ⟨z, hz, rfl⟩ := List.mem_map.mp hq
  rcases ains_mem hz with rfl | hz
  · exact List.mem_cons_self
  · obtain ⟨h1, h2, h3⟩ := adrop1_sub hz
    refine List.mem_cons_of_mem _ (List.mem_filter.mpr ⟨trl_mem h1, ?_⟩)
    rw [trv_cat]
    simp only [Bool.and_eq_true, Bool.not_eq_true', beq_eq_false_iff_ne, ne_eq, Bool.and_eq_false_iff]
    refine ⟨h2, ?_⟩
    by_cases e : z.1 + 1 = i
    · exact Or.inr fun w => h3 ⟨e, w⟩
    · exact Or.inl e
theorem aset2_has {lr : Array Slot} {nL : Nat} {ad : Nat → Nat} {ls : LV} {i : Nat} {v : AV} (h : lv_has lr nL ((i, trv ad v) :: (trl ad ls).filter (fun q => !(q.1 == i) && (!(q.1 == i + 1) && !(q.1 + 1 == i && q.2.category == 2))))) : lv_has lr nL (trl ad (aset2 ls i v)) := by
  refine lv_less h fun q hq => ?_
  obtain ⟨z, hz, rfl⟩ := List.mem_map.mp hq
  rcases ains_mem hz with rfl | hz
  · exact List.mem_cons_self
  · obtain ⟨h1, h2, h3, h4⟩ := adrop2_sub hz
    refine List.mem_cons_of_mem _ (List.mem_filter.mpr ⟨trl_mem h1, ?_⟩)
    rw [trv_cat]
    simp only [Bool.and_eq_true, Bool.not_eq_true', beq_eq_false_iff_ne, ne_eq, Bool.and_eq_false_iff]
    refine ⟨h2, h3, ?_⟩
    by_cases e : z.1 + 1 = i
    · exact Or.inr fun w => h4 ⟨e, w⟩
    · exact Or.inl e
theorem okls_aset1 {n : Nat} {ls : LV} {i : Nat} {v : AV} (h : okls n ls) (hv : okv n v) : okls n (aset1 ls i v) := by
  intro q hq
  rcases ains_mem hq with rfl | hq
  · exact hv
  · exact h q (adrop1_sub hq).1
theorem okls_aset2 {n : Nat} {ls : LV} {i : Nat} {v : AV} (h : okls n ls) (hv : okv n v) : okls n (aset2 ls i v) := by
  intro q hq
  rcases ains_mem hq with rfl | hq
  · exact hv
  · exact h q (adrop2_sub hq).1
theorem okls_mono {n k : Nat} (h : n ≤ k) {ls : LV} (hl : okls n ls) : okls k ls := fun q hq => okv_mono h (hl q hq)
theorem oks_mono {n k : Nat} (h : n ≤ k) {st : List AV} (hl : oks n st) : oks k st := fun q hq => okv_mono h (hl q hq)
theorem trl_ext {n : Nat} {a b : Nat → Nat} (h : ∀ q, q < n → b q = a q) {ls : LV} (hl : okls n ls) : trl b ls = trl a ls := by
  unfold trl
  refine List.map_congr_left fun q hq => ?_
  rw [trv_ext h (hl q hq)]
theorem trs_ext {n : Nat} {a b : Nat → Nat} (h : ∀ q, q < n → b q = a q) {st : List AV} (hl : oks n st) : st.map (trv b) = st.map (trv a) :=
  List.map_congr_left fun q hq => trv_ext h (hl q hq)
theorem oks_nil (n : Nat) : oks n [] := fun _ h => nomatch h
theorem oks_cons {n : Nat} {v : AV} {st : List AV} (h : okv n v) (hs : oks n st) : oks n (v :: st) := fun w hw => by
  rcases List.mem_cons.mp hw with rfl | hw
  · exact h
  · exact hs w hw
theorem oks_1 {n : Nat} {v : AV} {st : List AV} (h : oks n (v :: st)) : okv n v := h v List.mem_cons_self
theorem oks_t {n : Nat} {v : AV} {st : List AV} (h : oks n (v :: st)) : oks n st := fun w hw => h w (List.mem_cons_of_mem _ hw)
theorem oks_app {n : Nat} {a b : List AV} (h1 : oks n a) (h2 : oks n b) : oks n (a ++ b) := fun w hw => by
  rcases List.mem_append.mp hw with hw | hw
  · exact h1 w hw
  · exact h2 w hw
theorem oks_al {n : Nat} {a b : List AV} (h : oks n (a ++ b)) : oks n a := fun w hw => h w (List.mem_append_left _ hw)
theorem oks_ar {n : Nat} {a b : List AV} (h : oks n (a ++ b)) : oks n b := fun w hw => h w (List.mem_append_right _ hw)
theorem oks_rev {n : Nat} {a : List AV} (h : oks n a.reverse) : oks n a := fun w hw => h w (List.mem_reverse.mpr hw)
