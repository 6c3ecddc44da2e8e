/-! THE COMPONENT's WORLD: the object at place 320, what it makes at 321..350; the base b holds the rest -/
set_option maxRecDepth 100000
/-- by number (place 321 + number): tag, length. 0 plain words, 1 figures, 12 the tape, 13 nexts, 14 till, 15 least, 16 many, 17 path, 18 isNext, 19 away, 20 crowd, 21 others, 22 row, 23 foundRow, 25..28 slots, 29 images -/
def xty : Nat → Nat × Nat
  | 0 => (106, 12)
  | 1 => (100, 8)
  | 12 => (101, 800)
  | 18 => (102, 10000)
  | 21 => (100, 8)
  | 22 => (100, 3)
  | 23 => (100, 3)
  | 25 => (4, 1)
  | 26 => (4, 1)
  | 27 => (4, 1)
  | 28 => (4, 1)
  | 29 => (109, 3)
  | _ => (100, 10000)
/-- a field: 0 an int, 2 a boolean, 3 a place (0 none), else an array's place -/
def xfk : Nat → Nat
  | 0 => 321
  | 1 => 322
  | 3 => 3
  | 4 => 332
  | 5 => 333
  | 9 => 334
  | 10 => 335
  | 11 => 336
  | 12 => 337
  | 13 => 2
  | 14 => 338
  | 15 => 339
  | 16 => 340
  | 17 => 341
  | 19 => 342
  | 22 => 343
  | 23 => 344
  | 24 => 345
  | 25 => 350
  | _ => 0
/-- a place, or none -/
def xrf (x : Int) : AV := if x = 0 then vN else vR x.toNat
def xval (t : Nat) (x : Int) : AV := if 104 ≤ t ∨ t = 4 then xrf x else vI x
def xfv (f : Nat → Int) (k : Nat) : AV := if 300 < xfk k then vR (xfk k) else if xfk k = 3 then xrf (f k) else if xfk k = 1 then vL (f k) else vI (f k)
def xob (f : Nat → Int) : Int → AV
  | .ofNat n => xfv f n
  | .negSucc _ => vI 0
def xobj (f : Nat → Int) : AC := (0, 26, xob f)
def xarr (j : Nat) (f : Int → Int) : AC := ((xty j).1, (xty j).2, fun k => xval (xty j).1 (f k))
/-- the places that the state speaks of -/
def xov (z : Nat) : Prop := z = 320 ∨ (320 < z ∧ z < 323 ∨ 332 < z ∧ z < 345 ∨ 345 < z ∧ z < 351)
def xput (b : AH) (s : MS) : AH := (b.1, fun z => if z = 320 then xobj s.1 else if 320 < z ∧ z < 323 ∨ 332 < z ∧ z < 345 ∨ 345 < z ∧ z < 351 then xarr (z - 321) (s.2 (z - 321)) else b.2 z)
theorem xput_obj (b : AH) (s : MS) : (xput b s).2 320 = xobj s.1 := by
  show (if 320 = 320 then xobj s.1 else if 320 < 320 ∧ 320 < 323 ∨ 332 < 320 ∧ 320 < 345 ∨ 345 < 320 ∧ 320 < 351 then xarr (320 - 321) (s.2 (320 - 321)) else b.2 320) = _
  rw [if_pos rfl]
theorem xput_arr (b : AH) (s : MS) {j : Nat} (hj : (j < 2 ∨ 11 < j ∧ j < 24 ∨ 24 < j ∧ j < 30)) : (xput b s).2 (321 + j) = xarr j (s.2 j) := by
  show (if 321 + j = 320 then xobj s.1 else if 320 < 321 + j ∧ 321 + j < 323 ∨ 332 < 321 + j ∧ 321 + j < 345 ∨ 345 < 321 + j ∧ 321 + j < 351 then xarr (321 + j - 321) (s.2 (321 + j - 321)) else b.2 (321 + j)) = _
  rw [if_neg (by omega), if_pos (by omega), show 321 + j - 321 = j by omega]
theorem xput_else (b : AH) (s : MS) {z : Nat} (h1 : ¬ xov z) : (xput b s).2 z = b.2 z := by
  show (if z = 320 then xobj s.1 else if 320 < z ∧ z < 323 ∨ 332 < z ∧ z < 345 ∨ 345 < z ∧ z < 351 then xarr (z - 321) (s.2 (z - 321)) else b.2 z) = _
  unfold xov at h1
  rw [if_neg (by omega), if_neg (by omega)]
theorem xput_setA (b : AH) (s : MS) {j : Nat} (hj : (j < 2 ∨ 11 < j ∧ j < 24 ∨ 24 < j ∧ j < 30)) (i x : Int) : hset (xput b s) (321 + j) i (xval (xty j).1 x) = xput b (sA s j (upI (s.2 j) i x)) := by
  unfold hset hupd
  rw [xput_arr b s hj]
  apply Prod.ext
  · rfl
  · funext z
    show (if z = 321 + j then ((xarr j (s.2 j)).1, (xarr j (s.2 j)).2.1, fun k => if k = i then xval (xty j).1 x else (xarr j (s.2 j)).2.2 k) else (xput b s).2 z) = (xput b (sA s j (upI (s.2 j) i x))).2 z
    by_cases hz : z = 321 + j
    · subst hz
      rw [if_pos rfl, xput_arr b _ hj]
      have e : (sA s j (upI (s.2 j) i x)).2 j = upI (s.2 j) i x := if_pos rfl
      rw [e]
      unfold xarr
      apply Prod.ext
      · rfl
      · apply Prod.ext
        · rfl
        · funext k
          show (if k = i then xval (xty j).1 x else xval (xty j).1 (s.2 j k)) = xval (xty j).1 (if k = i then x else s.2 j k)
          split <;> rfl
    · rw [if_neg hz]
      by_cases h1 : z = 320
      · subst h1; rw [xput_obj, xput_obj]; rfl
      · by_cases h2 : 320 < z ∧ z < 323 ∨ 332 < z ∧ z < 345 ∨ 345 < z ∧ z < 351
        · obtain ⟨j', rfl⟩ : ∃ j', z = 321 + j' := ⟨z - 321, by omega⟩
          rw [xput_arr b _ (by omega), xput_arr b _ (by omega)]
          have e : (sA s j (upI (s.2 j) i x)).2 j' = s.2 j' := if_neg (by omega)
          rw [e]
        · rw [xput_else b _ (by unfold xov; omega), xput_else b _ (by unfold xov; omega)]
theorem xput_setS (b : AH) (s : MS) {k : Nat} {x : Int} {v : AV} (hv : xfv (fun z => if z = k then x else s.1 z) k = v) : hset (xput b s) 320 k v = xput b (sS s k x) := by
  unfold hset hupd
  rw [xput_obj b s]
  apply Prod.ext
  · rfl
  · funext z
    show (if z = 320 then ((xobj s.1).1, (xobj s.1).2.1, fun j => if j = (k : Int) then v else (xobj s.1).2.2 j) else (xput b s).2 z) = (xput b (sS s k x)).2 z
    by_cases hz : z = 320
    · subst hz
      rw [if_pos rfl, xput_obj]
      unfold xobj
      apply Prod.ext
      · rfl
      · apply Prod.ext
        · rfl
        · funext j
          show (if j = (k : Int) then v else xob s.1 j) = xob (fun z => if z = k then x else s.1 z) j
          by_cases hj : j = (k : Int)
          · subst hj; rw [if_pos rfl, ← hv]; rfl
          · rw [if_neg hj]
            match j, hj with
            | .ofNat n, hj =>
              have h0 : ¬ n = k := fun e => hj (by rw [e]; rfl)
              show xfv s.1 n = xfv (fun z => if z = k then x else s.1 z) n
              have e : (fun z => if z = k then x else s.1 z) n = s.1 n := if_neg h0
              unfold xfv
              rw [e]
            | .negSucc n, hj => rfl
    · rw [if_neg hz]
      by_cases h2 : 320 < z ∧ z < 323 ∨ 332 < z ∧ z < 345 ∨ 345 < z ∧ z < 351
      · obtain ⟨j', rfl⟩ : ∃ j', z = 321 + j' := ⟨z - 321, by omega⟩
        rw [xput_arr b _ (by omega), xput_arr b _ (by omega)]
        rfl
      · rw [xput_else b _ (by unfold xov; omega), xput_else b _ (by unfold xov; omega)]
theorem xfld {own : String} {idx k : Nat} (hf : Fld own idx 0 k) : k < 26 := by
  obtain ⟨C, T, N, hcl, hk, -⟩ := hf
  cases hcl
  exact hk
theorem xfldP {own mn : String} {idx k : Nat} {ty : FieldType} (hf : FldP own mn idx 0 k ty) : k < 26 := by
  obtain ⟨C, T, N, ty0, hcl, hk, -⟩ := hf
  cases hcl
  exact hk
section
variable {M : MI} {d : Nat} {P : Option AV → AH → Prop} {X : Nat → Nat → AH → Prop} {kc ks pc : Nat} {ls : LV} {st : List AV} {b : AH} {s : MS}
theorem JW.xget {idx k : Nat} {v : AV} (hd : decode M.2.1 pc = .ok (.getfield idx, 3)) (hf : Fld M.1.cls idx 0 k) (hv : xfv s.1 k = v) (kk : JW M d P X kc ks (pc + 3) ls (v :: st) (xput b s)) : JW M d P X kc ks pc ls (vR 320 :: st) (xput b s) :=
  JW.getf hd hf (by rw [xput_obj]; rfl) (by rw [xput_obj]; exact xfld hf) (by rw [xput_obj]; exact hv) kk
theorem JW.xputI {idx k : Nat} {x : Int} (hd : decode M.2.1 pc = .ok (.putfield idx, 3)) (hf : FldP M.1.cls M.1.name idx 0 k .int) (hk : xfk k = 0) (kk : JW M d P X kc ks (pc + 3) ls st (xput b (sS s k x))) : JW M d P X kc ks pc ls (vI x :: vR 320 :: st) (xput b s) :=
  JW.putf hd hf (by decide) (by rw [xput_obj]; rfl) (by rw [xput_obj]; exact xfldP hf) (fun _ => ⟨rfl, rfl⟩) (xput_setS b s (by unfold xfv; rw [hk, if_neg (by decide), if_neg (by decide), if_neg (by decide), upS_s])) kk
theorem JW.xputZ {idx k : Nat} {x : Int} (hd : decode M.2.1 pc = .ok (.putfield idx, 3)) (hf : FldP M.1.cls M.1.name idx 0 k .boolean) (hk : xfk k = 2) (hx : x = 0 ∨ x = 1) (kk : JW M d P X kc ks (pc + 3) ls st (xput b (sS s k x))) : JW M d P X kc ks pc ls (vI x :: vR 320 :: st) (xput b s) :=
  JW.putf hd hf (by decide) (by rw [xput_obj]; rfl) (by rw [xput_obj]; exact xfldP hf) (fun _ => by rcases hx with rfl | rfl <;> exact ⟨rfl, rfl⟩) (xput_setS b s (by unfold xfv; rw [hk, if_neg (by decide), if_neg (by decide), if_neg (by decide), upS_s])) kk
theorem xval_i {t : Nat} {x : Int} (h : t < 104 ∧ t ≠ 4) : xval t x = vI x := if_neg (by omega)
theorem xarr_at {b : AH} {s : MS} {j t : Nat} {i x : Int} (hj : (j < 2 ∨ 11 < j ∧ j < 24 ∨ 24 < j ∧ j < 30)) (ht : (xty j).1 = t) (hn : t < 104 ∧ t ≠ 4) (hv : s.2 j i = x) : ((xput b s).2 (321 + j)).2.2 i = vI x := by
  rw [xput_arr b s hj, ← hv]
  exact xval_i (by rw [ht]; exact hn)
theorem JW.xald (j : Nat) {i x : Int} (hd : decode M.2.1 pc = .ok (.iaload, 1)) (hj : (j < 2 ∨ 11 < j ∧ j < 24 ∨ 24 < j ∧ j < 30)) (ht : (xty j).1 = 100) (h0 : 0 ≤ i) (h1 : i < (xty j).2) (hv : s.2 j i = x) (kk : JW M d P X kc ks (pc + 1) ls (vI x :: st) (xput b s)) : JW M d P X kc ks pc ls (vI i :: vR (321 + j) :: st) (xput b s) :=
  JW.iaload hd (by rw [xput_arr b s hj]; exact ht) h0 (by rw [xput_arr b s hj]; exact h1) (xarr_at hj ht (by decide) hv) kk
theorem JW.xbld (j : Nat) {i x : Int} (hd : decode M.2.1 pc = .ok (.baload, 1)) (hj : (j < 2 ∨ 11 < j ∧ j < 24 ∨ 24 < j ∧ j < 30)) (ht : (xty j).1 = 101) (h0 : 0 ≤ i) (h1 : i < (xty j).2) (hv : s.2 j i = x) (kk : JW M d P X kc ks (pc + 1) ls (vI x :: st) (xput b s)) : JW M d P X kc ks pc ls (vI i :: vR (321 + j) :: st) (xput b s) :=
  JW.baload hd (by rw [xput_arr b s hj]; exact ht) h0 (by rw [xput_arr b s hj]; exact h1) (xarr_at hj ht (by decide) hv) kk
theorem JW.xzld (j : Nat) {i x : Int} (hd : decode M.2.1 pc = .ok (.baload, 1)) (hj : (j < 2 ∨ 11 < j ∧ j < 24 ∨ 24 < j ∧ j < 30)) (ht : (xty j).1 = 102) (h0 : 0 ≤ i) (h1 : i < (xty j).2) (hv : s.2 j i = x) (kk : JW M d P X kc ks (pc + 1) ls (vI x :: st) (xput b s)) : JW M d P X kc ks pc ls (vI i :: vR (321 + j) :: st) (xput b s) :=
  JW.zaload hd (by rw [xput_arr b s hj]; exact ht) h0 (by rw [xput_arr b s hj]; exact h1) (xarr_at hj ht (by decide) hv) kk
theorem JW.xast (j : Nat) {i x : Int} {f : Int → Int} (hd : decode M.2.1 pc = .ok (.iastore, 1)) (hj : (j < 2 ∨ 11 < j ∧ j < 24 ∨ 24 < j ∧ j < 30)) (ht : (xty j).1 = 100) (h0 : 0 ≤ i) (h1 : i < (xty j).2) (hf : s.2 j = f) (kk : JW M d P X kc ks (pc + 1) ls st (xput b (sA s j (upI f i x)))) : JW M d P X kc ks pc ls (vI x :: vI i :: vR (321 + j) :: st) (xput b s) :=
  JW.iastore hd (show 320 ≤ 321 + j by omega) (by rw [xput_arr b s hj]; exact ht) h0 (by rw [xput_arr b s hj]; exact h1) (by rw [← hf, ← xput_setA b s hj, xval_i (by rw [ht]; decide)]) kk
theorem JW.xbst (j : Nat) {i x : Int} {f : Int → Int} (hd : decode M.2.1 pc = .ok (.bastore, 1)) (hj : (j < 2 ∨ 11 < j ∧ j < 24 ∨ 24 < j ∧ j < 30)) (ht : (xty j).1 = 101) (h0 : 0 ≤ i) (h1 : i < (xty j).2) (hf : s.2 j = f) (kk : JW M d P X kc ks (pc + 1) ls st (xput b (sA s j (upI f i (jb8 x))))) : JW M d P X kc ks pc ls (vI x :: vI i :: vR (321 + j) :: st) (xput b s) :=
  JW.bastore hd (show 320 ≤ 321 + j by omega) (by rw [xput_arr b s hj]; exact ht) h0 (by rw [xput_arr b s hj]; exact h1) (by rw [← hf, ← xput_setA b s hj, xval_i (by rw [ht]; decide)]) kk
theorem JW.xzst (j : Nat) {i x : Int} {f : Int → Int} (hd : decode M.2.1 pc = .ok (.bastore, 1)) (hj : (j < 2 ∨ 11 < j ∧ j < 24 ∨ 24 < j ∧ j < 30)) (ht : (xty j).1 = 102) (h0 : 0 ≤ i) (h1 : i < (xty j).2) (hx : x = 0 ∨ x = 1) (hf : s.2 j = f) (kk : JW M d P X kc ks (pc + 1) ls st (xput b (sA s j (upI f i x)))) : JW M d P X kc ks pc ls (vI x :: vI i :: vR (321 + j) :: st) (xput b s) :=
  JW.zastore hd (show 320 ≤ 321 + j by omega) (by rw [xput_arr b s hj]; exact ht) h0 (by rw [xput_arr b s hj]; exact h1) hx (by rw [← hf, ← xput_setA b s hj, xval_i (by rw [ht]; decide)]) kk
end
section
variable {M : MI} {d : Nat} {P : Option AV → AH → Prop} {X : Nat → Nat → AH → Prop} {kc ks pc : Nat} {ls : LV} {st : List AV} {b : AH} {s : MS}
/-- fields of what the base holds -/
theorem JW.bget {idx ci k q : Nat} {v : AV} (hd : decode M.2.1 pc = .ok (.getfield idx, 3)) (hf : Fld M.1.cls idx ci k) (hq : ¬ xov q) (ht : (b.2 q).1 = ci) (hl : k < (b.2 q).2.1) (hv : (b.2 q).2.2 k = v) (kk : JW M d P X kc ks (pc + 3) ls (v :: st) (xput b s)) : JW M d P X kc ks pc ls (vR q :: st) (xput b s) :=
  JW.getf hd hf (by rw [xput_else b s hq]; exact ht) (by rw [xput_else b s hq]; exact hl) (by rw [xput_else b s hq]; exact hv) kk
theorem JW.bgetN {idx ci k q : Nat} {v : AV} (hd : decode M.2.1 pc = .ok (.getfield idx, 3)) (hf : FldN M.1.cls idx ci k) (hk : 320 ≤ q) (hq : ¬ xov q) (ht : (b.2 q).1 = ci) (hl : k < (b.2 q).2.1) (hv : (b.2 q).2.2 k = v) (kk : JW M d P X kc ks (pc + 3) ls (v :: st) (xput b s)) : JW M d P X kc ks pc ls (vR q :: st) (xput b s) :=
  JW.getfN hd hf hk (by rw [xput_else b s hq]; exact ht) (by rw [xput_else b s hq]; exact hl) (by rw [xput_else b s hq]; exact hv) kk
end
/-- the place that a value tells -/
def avR : AV → Nat
  | .inr (some p) => p
  | _ => 0
/-- a word: its class, how many fields, whether it goes by figures -/
def wci (s : Int) : Nat := if s < 4 then 10 + s.toNat else if s < 7 then 14 else if s < 10 then 15 else if s < 12 then 6 + s.toNat else if s < 14 then 18 else 19
def wby (s : Int) : Prop := s < 3 ∨ (7 ≤ s ∧ s < 10) ∨ s = 11 ∨ s = 14
/-- the word at p: its sort, its number -/
def XW (b : AH) (p : Nat) (s n : Int) : Prop := (350 < p ∧ p < b.1) ∧ (0 ≤ s ∧ s < 15) ∧ (b.2 p).1 = wci s ∧
  ((wby s ∧ (b.2 p).2.1 = (if s = 1 then 6 else 5) ∧ (b.2 p).2.2 0 = vR 320 ∧ (b.2 p).2.2 1 = vI s ∧ (b.2 p).2.2 2 = vI n ∧ (b.2 p).2.2 3 = vR 320 ∧ (b.2 p).2.2 4 = vR 320 ∧ (s = 1 → (b.2 p).2.2 5 = vR 320)) ∨
   (¬ wby s ∧ (b.2 p).2.1 = 4 ∧ (b.2 p).2.2 0 = vI s ∧ (b.2 p).2.2 1 = vI n ∧ (b.2 p).2.2 2 = vR 320 ∧ (b.2 p).2.2 3 = vR 320))
/-- a list at q with n things in it -/
def XL (b : AH) (q : Nat) (n : Int) : Prop := (322 < q ∧ q < b.1 ∧ ¬ xov q) ∧ ((b.2 q).1 = 3 ∧ (b.2 q).2.1 = 3) ∧ (b.2 q).2.2 1 = vR (avR ((b.2 q).2.2 1)) ∧ (b.2 q).2.2 2 = vI n ∧
  (322 < avR ((b.2 q).2.2 1) ∧ avR ((b.2 q).2.2 1) < b.1 ∧ ¬ xov (avR ((b.2 q).2.2 1))) ∧ (b.2 (avR ((b.2 q).2.2 1))).1 = 105 ∧ (0 ≤ n ∧ n ≤ (b.2 (avR ((b.2 q).2.2 1))).2.1 ∧ (b.2 (avR ((b.2 q).2.2 1))).2.1 < 1000) ∧
  ∀ i : Int, 0 ≤ i → i < n → (b.2 (avR ((b.2 q).2.2 1))).2.2 i = vR (avR ((b.2 (avR ((b.2 q).2.2 1))).2.2 i))
/-- the place of a list's i-th thing -/
def lpl (b : AH) (q : Nat) (i : Int) : Nat := avR ((b.2 (avR ((b.2 q).2.2 1))).2.2 i)
/-- the place of a table's list in field k -/
def tpl (b : AH) (p k : Nat) : Nat := avR ((b.2 p).2.2 k)
/-- a word's number as the component has it -/
def wnm (s n : Int) : Int := if s < 12 then 0 else n
/-- the table at p: t 0 its head (base, length, size, how many words, slips, told numbers), t 1 its words, t 2 its slips, t 3 the told numbers, t 4 at 0 its lines -/
def XT (b : AH) (p : Nat) (t : Nat → Int → Int) : Prop := (322 < p ∧ p < b.1 ∧ ¬ xov p) ∧ ((b.2 p).1 = 2 ∧ (b.2 p).2.1 = 9) ∧
  ((b.2 p).2.2 0 = vI (t 0 0) ∧ (b.2 p).2.2 1 = vI (t 0 1) ∧ (b.2 p).2.2 2 = vI (t 0 2) ∧ (b.2 p).2.2 3 = vI (t 4 0)) ∧
  ((b.2 p).2.2 5 = vR (tpl b p 5) ∧ XL b (tpl b p 5) (t 0 3)) ∧ ((b.2 p).2.2 6 = vR (tpl b p 6) ∧ XL b (tpl b p 6) (t 0 4)) ∧ ((b.2 p).2.2 7 = vR (tpl b p 7) ∧ XL b (tpl b p 7) (t 0 4)) ∧ ((b.2 p).2.2 8 = vR (tpl b p 8) ∧ XL b (tpl b p 8) (t 0 5)) ∧
  (∀ i : Int, 0 ≤ i → i < t 0 3 → XW b (lpl b (tpl b p 5) i) (t 1 (2 * i)) (wnm (t 1 (2 * i)) (t 1 (2 * i + 1)))) ∧
  (∀ i : Int, 0 ≤ i → i < t 0 4 → XW b (lpl b (tpl b p 6) i) (t 2 (4 * i)) (wnm (t 2 (4 * i)) (t 2 (4 * i + 1))) ∧ XW b (lpl b (tpl b p 7) i) (t 2 (4 * i + 2)) (wnm (t 2 (4 * i + 2)) (t 2 (4 * i + 3)))) ∧
  (∀ i : Int, 0 ≤ i → i < t 0 5 → ((b.2 (lpl b (tpl b p 8) i)).1 = 8 ∧ (b.2 (lpl b (tpl b p 8) i)).2.1 = 1 ∧ ¬ xov (lpl b (tpl b p 8) i)) ∧ (b.2 (lpl b (tpl b p 8) i)).2.2 0 = vI (t 3 i))
/-- the table that holds: its place is the state's scalar 3 -/
def XTs (b : AH) (s : MS) (t : Nat → Int → Int) : Prop := s.1 3 ≠ 0 ∧ XT b (s.1 3).toNat t
section
variable {M : MI} {d : Nat} {P : Option AV → AH → Prop} {X : Nat → Nat → AH → Prop} {kc ks pc : Nat} {ls : LV} {st : List AV} {b : AH} {s : MS} {t : Nat → Int → Int}
theorem JW.xtab {idx : Nat} {y : Int} (hT : y ≠ 0 ∧ XT b y.toNat t) (hd : decode M.2.1 pc = .ok (.getfield idx, 3)) (hf : Fld M.1.cls idx 0 3) (hy : s.1 3 = y) (kk : JW M d P X kc ks (pc + 3) ls (vR y.toNat :: st) (xput b s)) : JW M d P X kc ks pc ls (vR 320 :: st) (xput b s) :=
  JW.xget hd hf (by show xrf (s.1 3) = _; rw [hy]; exact if_neg hT.1) kk
theorem JW.tget {idx k p : Nat} {v : AV} (hT : XT b p t) (hd : decode M.2.1 pc = .ok (.getfield idx, 3)) (hf : FldN M.1.cls idx 2 k) (hk : k < 9) (hv : (b.2 p).2.2 k = v) (kk : JW M d P X kc ks (pc + 3) ls (v :: st) (xput b s)) : JW M d P X kc ks pc ls (vR p :: st) (xput b s) :=
  JW.bgetN hd hf (by have := hT.1; omega) hT.1.2.2 hT.2.1.1 (by rw [hT.2.1.2]; exact hk) hv kk
end
/-- a contract of a method of the component that makes nothing and throws nothing -/
def XC (y : MI) (d : Nat) (b : AH) (s : MS) (as : List AV) (Q : Option AV → MS → Prop) : Prop := AMet y d 0 0 (fun v h' => ∃ s', h' = xput b s' ∧ Q v s') (fun _ _ _ => False) (vR 320 :: as) (xput b s)
/-- .. of a static one -/
def XCS (y : MI) (d : Nat) (b : AH) (s : MS) (as : List AV) (Q : Option AV → MS → Prop) : Prop := AMet y d 0 0 (fun v h' => ∃ s', h' = xput b s' ∧ Q v s') (fun _ _ _ => False) as (xput b s)
section
variable {M : MI} {d : Nat} {P : Option AV → AH → Prop} {X : Nat → Nat → AH → Prop} {kc ks pc : Nat} {ls : LV} {st : List AV} {b : AH} {s : MS}
theorem JW.xcall {y : MI} {idx d' : Nat} {As stk : List AV} {Q : Option AV → MS → Prop} (hd : decode M.2.1 pc = .ok (.invokevirtual idx, 3)) (hy : VOK y As.length) (hc : y.1.cls = RX0) (hl : Cond.methodLink M.1.cls idx y.1 ∈ lw_all) (hm : XC y d' b s As Q) (hd1 : d' + 1 ≤ d) (hstk : As.reverse ++ vR 320 :: st = stk) (hst : jsize st ≤ 8) (kk : ∀ v s', Q v s' → JW M d P X kc ks (pc + 3) ls (v.toList ++ st) (xput b s')) : JW M d P X kc ks pc ls stk (xput b s) := by
  subst hstk
  exact JW.callV hd hy hl hm (by rw [xput_obj, hc]; rfl) hd1 (Nat.le_of_eq (Nat.zero_add _)) (Nat.le_of_eq (Nat.zero_add _)) rfl hst (by rw [xput_obj]; exact Nat.lt_of_lt_of_le Nat.one_pos (by decide)) (fun v h' q _ => by obtain ⟨s', e, q⟩ := q; rw [e]; exact kk v s' q) (fun _ _ _ q _ => q.elim)
theorem JW.xcallS {y : MI} {idx d' : Nat} {As stk : List AV} {Q : Option AV → MS → Prop} (hd : decode M.2.1 pc = .ok (.invokestatic idx, 3)) (hy : SOK y As.length) (hl : Cond.methodLink M.1.cls idx y.1 ∈ lw_all) (hm : XCS y d' b s As Q) (hd1 : d' + 1 ≤ d) (hstk : As.reverse ++ st = stk) (hst : jsize st ≤ 8) (kk : ∀ v s', Q v s' → JW M d P X kc ks (pc + 3) ls (v.toList ++ st) (xput b s')) : JW M d P X kc ks pc ls stk (xput b s) := by
  subst hstk
  exact JW.callS hd hy hl hm hd1 (Nat.le_of_eq (Nat.zero_add _)) (Nat.le_of_eq (Nat.zero_add _)) rfl hst (fun v h' q _ => by obtain ⟨s', e, q⟩ := q; rw [e]; exact kk v s' q) (fun _ _ _ q _ => q.elim)
abbrev XM (M : MI) (d : Nat) (Q : Option AV → MS → Prop) (b : AH) (pc : Nat) (ls : LV) (st : List AV) (s : MS) : Prop := JW M d (fun v h' => ∃ s', h' = xput b s' ∧ Q v s') (fun _ _ _ => False) 0 0 pc ls st (xput b s)
theorem JW.xsteq {s1 s2 : MS} (h : s1 = s2) (k : JW M d P X kc ks pc ls st (xput b s2)) : JW M d P X kc ks pc ls st (xput b s1) := by rw [h]; exact k
theorem XC.of {y : MI} {as : List AV} {Q : Option AV → MS → Prop} (hpl : plainName y.1.cls = true) (hhh : y.2.2.2.2 = []) (hsz : jsize (vR 320 :: as) ≤ y.2.2.1) (k : JW y d (fun v h' => ∃ s', h' = xput b s' ∧ Q v s') (fun _ _ _ => False) 0 0 0 (jargs 0 (vR 320 :: as)) [] (xput b s)) : XC y d b s as Q := AMet.of hpl hhh hsz k
theorem XCS.ofF {y : MI} {as : List AV} {Q : Option AV → MS → Prop} (hpl : plainFor y.1 = true) (hhh : y.2.2.2.2 = []) (hsz : jsize as ≤ y.2.2.1) (k : JW y d (fun v h' => ∃ s', h' = xput b s' ∧ Q v s') (fun _ _ _ => False) 0 0 0 (jargs 0 as) [] (xput b s)) : XCS y d b s as Q := AMet.ofF hpl hhh hsz k
theorem XCS.of {y : MI} {as : List AV} {Q : Option AV → MS → Prop} (hpl : plainName y.1.cls = true) (hhh : y.2.2.2.2 = []) (hsz : jsize as ≤ y.2.2.1) (k : JW y d (fun v h' => ∃ s', h' = xput b s' ∧ Q v s') (fun _ _ _ => False) 0 0 0 (jargs 0 as) [] (xput b s)) : XCS y d b s as Q := AMet.of hpl hhh hsz k
end
