/-! THE REFERENCE's WORLD: one object at place 351, its arrays at 352..371 -/
set_option maxRecDepth 100000
abbrev MS : Type := (Nat → Int) × (Nat → Int → Int)
def sS (s : MS) (k : Nat) (v : Int) : MS := (fun z => if z = k then v else s.1 z, s.2)
def sA (s : MS) (j : Nat) (f : Int → Int) : MS := (s.1, fun z => if z = j then f else s.2 z)
def upI (f : Int → Int) (i v : Int) : Int → Int := fun z => if z = i then v else f z
/-- the arrays: tag, length -/
def mty : Nat → Nat × Nat
  | 0 => (100, 4)
  | 1 => (100, 4)
  | 2 => (104, 240)
  | 3 => (104, 60)
  | 4 => (101, 800)
  | 5 => (100, 5)
  | 6 => (100, 30)
  | 7 => (100, 120)
  | 8 => (100, 120)
  | 9 => (100, 100)
  | 10 => (102, 3)
  | 11 => (100, 8)
  | 12 => (100, 8)
  | 13 => (100, 10000)
  | 14 => (100, 10000)
  | 15 => (100, 10000)
  | 16 => (100, 10000)
  | 17 => (100, 10000)
  | 18 => (102, 10000)
  | _ => (102, 10000)
/-- a field: 0 an int, 1 a long, 2 a boolean, else the array's place -/
def mfk : Nat → Nat
  | 1 => 352
  | 2 => 353
  | 3 => 354
  | 4 => 355
  | 5 => 356
  | 11 => 1
  | 16 => 357
  | 17 => 358
  | 18 => 359
  | 19 => 360
  | 20 => 361
  | 21 => 2
  | 22 => 362
  | 23 => 363
  | 24 => 364
  | 26 => 365
  | 27 => 366
  | 28 => 367
  | 29 => 368
  | 30 => 369
  | 31 => 370
  | 32 => 371
  | _ => 0
def mval (t : Nat) (x : Int) : AV := if t = 104 then vL x else vI x
def mfv (f : Nat → Int) (k : Nat) : AV := if 300 < mfk k then vR (mfk k) else if mfk k = 1 then vL (f k) else vI (f k)
def mob (f : Nat → Int) : Int → AV
  | .ofNat n => mfv f n
  | .negSucc _ => vI 0
def mobj (f : Nat → Int) : AC := (1, 35, mob f)
def marr (j : Nat) (f : Int → Int) : AC := ((mty j).1, (mty j).2, fun k => mval (mty j).1 (f k))
def mput (b : AH) (s : MS) : AH := (b.1, fun z => if z = 351 then mobj s.1 else if 351 < z ∧ z < 372 then marr (z - 352) (s.2 (z - 352)) else b.2 z)
theorem mput_obj (b : AH) (s : MS) : (mput b s).2 351 = mobj s.1 := by
  show (if 351 = 351 then mobj s.1 else if 351 < 351 ∧ 351 < 372 then marr (351 - 352) (s.2 (351 - 352)) else b.2 351) = _
  rw [if_pos rfl]
theorem mput_arr (b : AH) (s : MS) {j : Nat} (hj : j < 20) : (mput b s).2 (352 + j) = marr j (s.2 j) := by
  show (if 352 + j = 351 then mobj s.1 else if 351 < 352 + j ∧ 352 + j < 372 then marr (352 + j - 352) (s.2 (352 + j - 352)) else b.2 (352 + j)) = _
  rw [if_neg (by omega), if_pos (by omega), show 352 + j - 352 = j by omega]
theorem mput_else (b : AH) (s : MS) {z : Nat} (h1 : z < 351 ∨ 372 ≤ z) : (mput b s).2 z = b.2 z := by
  show (if z = 351 then mobj s.1 else if 351 < z ∧ z < 372 then marr (z - 352) (s.2 (z - 352)) else b.2 z) = _
  rw [if_neg (by omega), if_neg (by omega)]
theorem mput_setA (b : AH) (s : MS) {j : Nat} (hj : j < 20) (i x : Int) : hset (mput b s) (352 + j) i (mval (mty j).1 x) = mput b (sA s j (upI (s.2 j) i x)) := by
  unfold hset hupd
  rw [mput_arr b s hj]
  apply Prod.ext
  · rfl
  · funext z
    show (if z = 352 + j then ((marr j (s.2 j)).1, (marr j (s.2 j)).2.1, fun k => if k = i then mval (mty j).1 x else (marr j (s.2 j)).2.2 k) else (mput b s).2 z) = (mput b (sA s j (upI (s.2 j) i x))).2 z
    by_cases hz : z = 352 + j
    · subst hz
      rw [if_pos rfl, mput_arr b _ hj]
      have e : (sA s j (upI (s.2 j) i x)).2 j = upI (s.2 j) i x := if_pos rfl
      rw [e]
      unfold marr
      apply Prod.ext
      · rfl
      · apply Prod.ext
        · rfl
        · funext k
          show (if k = i then mval (mty j).1 x else mval (mty j).1 (s.2 j k)) = mval (mty j).1 (if k = i then x else s.2 j k)
          split <;> rfl
    · rw [if_neg hz]
      by_cases h1 : z = 351
      · subst h1; rw [mput_obj, mput_obj]; rfl
      · by_cases h2 : 351 < z ∧ z < 372
        · obtain ⟨j', rfl⟩ : ∃ j', z = 352 + j' := ⟨z - 352, by omega⟩
          rw [mput_arr b _ (by omega), mput_arr b _ (by omega)]
          have e : (sA s j (upI (s.2 j) i x)).2 j' = s.2 j' := if_neg (by omega)
          rw [e]
        · rw [mput_else b _ (by omega), mput_else b _ (by omega)]
theorem upS_s (f : Nat → Int) (k : Nat) (x : Int) : (fun z => if z = k then x else f z) k = x := if_pos rfl
theorem mput_setS (b : AH) (s : MS) {k : Nat} {x : Int} {v : AV} (hv : mfv (fun z => if z = k then x else s.1 z) k = v) : hset (mput b s) 351 k v = mput b (sS s k x) := by
  unfold hset hupd
  rw [mput_obj b s]
  apply Prod.ext
  · rfl
  · funext z
    show (if z = 351 then ((mobj s.1).1, (mobj s.1).2.1, fun j => if j = (k : Int) then v else (mobj s.1).2.2 j) else (mput b s).2 z) = (mput b (sS s k x)).2 z
    by_cases hz : z = 351
    · subst hz
      rw [if_pos rfl, mput_obj]
      unfold mobj
      apply Prod.ext
      · rfl
      · apply Prod.ext
        · rfl
        · funext j
          show (if j = (k : Int) then v else mob s.1 j) = mob (fun z => if z = k then x else s.1 z) j
          by_cases hj : j = (k : Int)
          · subst hj; rw [if_pos rfl, ← hv]; rfl
          · rw [if_neg hj]
            match j, hj with
            | .ofNat n, hj =>
              have h0 : ¬ n = k := fun e => hj (by rw [e]; rfl)
              show mfv s.1 n = mfv (fun z => if z = k then x else s.1 z) n
              have e : (fun z => if z = k then x else s.1 z) n = s.1 n := if_neg h0
              unfold mfv
              rw [e]
            | .negSucc n, hj => rfl
    · rw [if_neg hz]
      by_cases h2 : 351 < z ∧ z < 372
      · obtain ⟨j', rfl⟩ : ∃ j', z = 352 + j' := ⟨z - 352, by omega⟩
        rw [mput_arr b _ (by omega), mput_arr b _ (by omega)]
        rfl
      · rw [mput_else b _ (by omega), mput_else b _ (by omega)]
theorem fld1 {own : String} {idx k : Nat} (hf : Fld own idx 1 k) : k < 35 := by
  obtain ⟨C, T, N, hcl, hk, -⟩ := hf
  cases hcl
  exact hk
theorem fldP1 {own mn : String} {idx k : Nat} {ty : FieldType} (hf : FldP own mn idx 1 k ty) : k < 35 := by
  obtain ⟨C, T, N, ty0, hcl, hk, -⟩ := hf
  cases hcl
  exact hk
section
variable {M : MI} {d : Nat} {P : Option AV → AH → Prop} {X : Nat → Nat → AH → Prop} {kc ks pc : Nat} {ls : LV} {st : List AV} {b : AH} {s : MS}
theorem JW.mget {idx k : Nat} {v : AV} (hd : decode M.2.1 pc = .ok (.getfield idx, 3)) (hf : Fld M.1.cls idx 1 k) (hv : mfv s.1 k = v) (kk : JW M d P X kc ks (pc + 3) ls (v :: st) (mput b s)) : JW M d P X kc ks pc ls (vR 351 :: st) (mput b s) :=
  JW.getf hd hf (by rw [mput_obj]; rfl) (by rw [mput_obj]; exact fld1 hf) (by rw [mput_obj]; exact hv) kk
theorem JW.mputI {idx k : Nat} {x : Int} (hd : decode M.2.1 pc = .ok (.putfield idx, 3)) (hf : FldP M.1.cls M.1.name idx 1 k .int) (hk : mfk k = 0) (kk : JW M d P X kc ks (pc + 3) ls st (mput b (sS s k x))) : JW M d P X kc ks pc ls (vI x :: vR 351 :: st) (mput b s) :=
  JW.putf hd hf (by decide) (by rw [mput_obj]; rfl) (by rw [mput_obj]; exact fldP1 hf) (fun _ => ⟨rfl, rfl⟩) (mput_setS b s (by unfold mfv; rw [hk, if_neg (by decide), if_neg (by decide), upS_s])) kk
theorem JW.mputL {idx k : Nat} {x : Int} (hd : decode M.2.1 pc = .ok (.putfield idx, 3)) (hf : FldP M.1.cls M.1.name idx 1 k .long) (hk : mfk k = 1) (kk : JW M d P X kc ks (pc + 3) ls st (mput b (sS s k x))) : JW M d P X kc ks pc ls (vL x :: vR 351 :: st) (mput b s) :=
  JW.putf hd hf (by decide) (by rw [mput_obj]; rfl) (by rw [mput_obj]; exact fldP1 hf) (fun _ => ⟨rfl, rfl⟩) (mput_setS b s (by unfold mfv; rw [hk, if_neg (by decide), if_pos rfl, upS_s])) kk
theorem JW.mputZ {idx k : Nat} {x : Int} (hd : decode M.2.1 pc = .ok (.putfield idx, 3)) (hf : FldP M.1.cls M.1.name idx 1 k .boolean) (hk : mfk k = 2) (hx : x = 0 ∨ x = 1) (kk : JW M d P X kc ks (pc + 3) ls st (mput b (sS s k x))) : JW M d P X kc ks pc ls (vI x :: vR 351 :: st) (mput b s) :=
  JW.putf hd hf (by decide) (by rw [mput_obj]; rfl) (by rw [mput_obj]; exact fldP1 hf) (fun _ => by rcases hx with rfl | rfl <;> exact ⟨rfl, rfl⟩) (mput_setS b s (by unfold mfv; rw [hk, if_neg (by decide), if_neg (by decide), upS_s])) kk
theorem mval_i {t : Nat} {x : Int} (h : t ≠ 104) : mval t x = vI x := if_neg h
theorem marr_at {b : AH} {s : MS} {j t : Nat} {i x : Int} (hj : j < 20) (ht : (mty j).1 = t) (hn : t ≠ 104) (hv : s.2 j i = x) : ((mput b s).2 (352 + j)).2.2 i = vI x := by
  rw [mput_arr b s hj, ← hv]
  exact mval_i (by rw [ht]; exact hn)
theorem JW.mald (j : Nat) {i x : Int} (hd : decode M.2.1 pc = .ok (.iaload, 1)) (hj : j < 20) (ht : (mty j).1 = 100) (h0 : 0 ≤ i) (h1 : i < (mty j).2) (hv : s.2 j i = x) (kk : JW M d P X kc ks (pc + 1) ls (vI x :: st) (mput b s)) : JW M d P X kc ks pc ls (vI i :: vR (352 + j) :: st) (mput b s) :=
  JW.iaload hd (by rw [mput_arr b s hj]; exact ht) h0 (by rw [mput_arr b s hj]; exact h1) (marr_at hj ht (by decide) hv) kk
theorem JW.mbld (j : Nat) {i x : Int} (hd : decode M.2.1 pc = .ok (.baload, 1)) (hj : j < 20) (ht : (mty j).1 = 101) (h0 : 0 ≤ i) (h1 : i < (mty j).2) (hv : s.2 j i = x) (kk : JW M d P X kc ks (pc + 1) ls (vI x :: st) (mput b s)) : JW M d P X kc ks pc ls (vI i :: vR (352 + j) :: st) (mput b s) :=
  JW.baload hd (by rw [mput_arr b s hj]; exact ht) h0 (by rw [mput_arr b s hj]; exact h1) (marr_at hj ht (by decide) hv) kk
theorem JW.mzld (j : Nat) {i x : Int} (hd : decode M.2.1 pc = .ok (.baload, 1)) (hj : j < 20) (ht : (mty j).1 = 102) (h0 : 0 ≤ i) (h1 : i < (mty j).2) (hv : s.2 j i = x) (kk : JW M d P X kc ks (pc + 1) ls (vI x :: st) (mput b s)) : JW M d P X kc ks pc ls (vI i :: vR (352 + j) :: st) (mput b s) :=
  JW.zaload hd (by rw [mput_arr b s hj]; exact ht) h0 (by rw [mput_arr b s hj]; exact h1) (marr_at hj ht (by decide) hv) kk
theorem JW.mlld (j : Nat) {i x : Int} (hd : decode M.2.1 pc = .ok (.laload, 1)) (hj : j < 20) (ht : (mty j).1 = 104) (h0 : 0 ≤ i) (h1 : i < (mty j).2) (hv : s.2 j i = x) (kk : JW M d P X kc ks (pc + 1) ls (vL x :: st) (mput b s)) : JW M d P X kc ks pc ls (vI i :: vR (352 + j) :: st) (mput b s) :=
  JW.laload hd (by rw [mput_arr b s hj]; exact ht) h0 (by rw [mput_arr b s hj]; exact h1) (by rw [mput_arr b s hj, ← hv]; exact if_pos ht) kk
theorem JW.mast (j : Nat) {i x : Int} {f : Int → Int} (hd : decode M.2.1 pc = .ok (.iastore, 1)) (hj : j < 20) (ht : (mty j).1 = 100) (h0 : 0 ≤ i) (h1 : i < (mty j).2) (hf : s.2 j = f) (kk : JW M d P X kc ks (pc + 1) ls st (mput b (sA s j (upI f i x)))) : JW M d P X kc ks pc ls (vI x :: vI i :: vR (352 + j) :: st) (mput b s) :=
  JW.iastore hd (show 320 ≤ 352 + j by omega) (by rw [mput_arr b s hj]; exact ht) h0 (by rw [mput_arr b s hj]; exact h1) (by rw [← hf, ← mput_setA b s hj, mval_i (by rw [ht]; decide)]) kk
theorem JW.mbst (j : Nat) {i x : Int} {f : Int → Int} (hd : decode M.2.1 pc = .ok (.bastore, 1)) (hj : j < 20) (ht : (mty j).1 = 101) (h0 : 0 ≤ i) (h1 : i < (mty j).2) (hf : s.2 j = f) (kk : JW M d P X kc ks (pc + 1) ls st (mput b (sA s j (upI f i (jb8 x))))) : JW M d P X kc ks pc ls (vI x :: vI i :: vR (352 + j) :: st) (mput b s) :=
  JW.bastore hd (show 320 ≤ 352 + j by omega) (by rw [mput_arr b s hj]; exact ht) h0 (by rw [mput_arr b s hj]; exact h1) (by rw [← hf, ← mput_setA b s hj, mval_i (by rw [ht]; decide)]) kk
theorem JW.mzst (j : Nat) {i x : Int} {f : Int → Int} (hd : decode M.2.1 pc = .ok (.bastore, 1)) (hj : j < 20) (ht : (mty j).1 = 102) (h0 : 0 ≤ i) (h1 : i < (mty j).2) (hx : x = 0 ∨ x = 1) (hf : s.2 j = f) (kk : JW M d P X kc ks (pc + 1) ls st (mput b (sA s j (upI f i x)))) : JW M d P X kc ks pc ls (vI x :: vI i :: vR (352 + j) :: st) (mput b s) :=
  JW.zastore hd (show 320 ≤ 352 + j by omega) (by rw [mput_arr b s hj]; exact ht) h0 (by rw [mput_arr b s hj]; exact h1) hx (by rw [← hf, ← mput_setA b s hj, mval_i (by rw [ht]; decide)]) kk
theorem JW.mlst (j : Nat) {i x : Int} {f : Int → Int} (hd : decode M.2.1 pc = .ok (.lastore, 1)) (hj : j < 20) (ht : (mty j).1 = 104) (h0 : 0 ≤ i) (h1 : i < (mty j).2) (hf : s.2 j = f) (kk : JW M d P X kc ks (pc + 1) ls st (mput b (sA s j (upI f i x)))) : JW M d P X kc ks pc ls (vL x :: vI i :: vR (352 + j) :: st) (mput b s) :=
  JW.lastore hd (show 320 ≤ 352 + j by omega) (by rw [mput_arr b s hj]; exact ht) h0 (by rw [mput_arr b s hj]; exact h1) (by rw [← hf, ← mput_setA b s hj]; exact congrArg _ (if_pos ht).symm) kk
end
/-- a contract of a method of the reference: it makes nothing and throws nothing -/
def MC (y : MI) (d : Nat) (b : AH) (s : MS) (as : List AV) (Q : Option AV → MS → Prop) : Prop := AMet y d 0 0 (fun v h' => ∃ s', h' = mput b s' ∧ Q v s') (fun _ _ _ => False) (vR 351 :: as) (mput b s)
/-- .. of a static one -/
def MCS (y : MI) (d : Nat) (b : AH) (s : MS) (as : List AV) (Q : Option AV → MS → Prop) : Prop := AMet y d 0 0 (fun v h' => ∃ s', h' = mput b s' ∧ Q v s') (fun _ _ _ => False) as (mput b s)
section
variable {M : MI} {d : Nat} {P : Option AV → AH → Prop} {X : Nat → Nat → AH → Prop} {kc ks pc : Nat} {ls : LV} {st : List AV} {b : AH} {s : MS}
theorem JW.mcall {y : MI} {idx d' : Nat} {As stk : List AV} {Q : Option AV → MS → Prop} (hd : decode M.2.1 pc = .ok (.invokevirtual idx, 3)) (hy : VOK y As.length) (hc : y.1.cls = RX3) (hl : Cond.methodLink M.1.cls idx y.1 ∈ lw_all) (hm : MC y d' b s As Q) (hd1 : d' + 1 ≤ d) (hstk : As.reverse ++ vR 351 :: st = stk) (hst : jsize st ≤ 8) (kk : ∀ v s', Q v s' → JW M d P X kc ks (pc + 3) ls (v.toList ++ st) (mput b s')) : JW M d P X kc ks pc ls stk (mput b s) := by
  subst hstk
  exact JW.callV hd hy hl hm (by rw [mput_obj, hc]; rfl) hd1 (Nat.le_of_eq (Nat.zero_add _)) (Nat.le_of_eq (Nat.zero_add _)) rfl hst (by rw [mput_obj]; exact Nat.lt_of_lt_of_le Nat.one_lt_two (by decide)) (fun v h' q _ => by obtain ⟨s', e, q⟩ := q; rw [e]; exact kk v s' q) (fun _ _ _ q _ => q.elim)
theorem JW.mcallD {y : MI} {idx d' : Nat} {As stk : List AV} {v0 : Option AV} {s1 : MS} (hd : decode M.2.1 pc = .ok (.invokevirtual idx, 3)) (hy : VOK y As.length) (hc : y.1.cls = RX3) (hl : Cond.methodLink M.1.cls idx y.1 ∈ lw_all) (hm : MC y d' b s As (fun v s' => v = v0 ∧ s' = s1)) (hd1 : d' + 1 ≤ d) (hstk : As.reverse ++ vR 351 :: st = stk) (hst : jsize st ≤ 8) (kk : JW M d P X kc ks (pc + 3) ls (v0.toList ++ st) (mput b s1)) : JW M d P X kc ks pc ls stk (mput b s) :=
  JW.mcall hd hy hc hl hm hd1 hstk hst (fun v s' q => by rw [q.1, q.2]; exact kk)
theorem JW.mcallS {y : MI} {idx d' : Nat} {As stk : List AV} {Q : Option AV → MS → Prop} (hd : decode M.2.1 pc = .ok (.invokestatic idx, 3)) (hy : SOK y As.length) (hl : Cond.methodLink M.1.cls idx y.1 ∈ lw_all) (hm : MCS y d' b s As Q) (hd1 : d' + 1 ≤ d) (hstk : As.reverse ++ st = stk) (hst : jsize st ≤ 8) (kk : ∀ v s', Q v s' → JW M d P X kc ks (pc + 3) ls (v.toList ++ st) (mput b s')) : JW M d P X kc ks pc ls stk (mput b s) := by
  subst hstk
  exact JW.callS hd hy hl hm hd1 (Nat.le_of_eq (Nat.zero_add _)) (Nat.le_of_eq (Nat.zero_add _)) rfl hst (fun v h' q _ => by obtain ⟨s', e, q⟩ := q; rw [e]; exact kk v s' q) (fun _ _ _ q _ => q.elim)
theorem JW.mcallSD {y : MI} {idx d' : Nat} {As stk : List AV} {v0 : Option AV} {s1 : MS} (hd : decode M.2.1 pc = .ok (.invokestatic idx, 3)) (hy : SOK y As.length) (hl : Cond.methodLink M.1.cls idx y.1 ∈ lw_all) (hm : MCS y d' b s As (fun v s' => v = v0 ∧ s' = s1)) (hd1 : d' + 1 ≤ d) (hstk : As.reverse ++ st = stk) (hst : jsize st ≤ 8) (kk : JW M d P X kc ks (pc + 3) ls (v0.toList ++ st) (mput b s1)) : JW M d P X kc ks pc ls stk (mput b s) :=
  JW.mcallS hd hy hl hm hd1 hstk hst (fun v s' q => by rw [q.1, q.2]; exact kk)
/-- a contract shown by the body -/
theorem MC.of {y : MI} {as : List AV} {Q : Option AV → MS → Prop} (hpl : plainName y.1.cls = true) (hhh : y.2.2.2.2 = []) (hsz : jsize (vR 351 :: as) ≤ y.2.2.1) (k : JW y d (fun v h' => ∃ s', h' = mput b s' ∧ Q v s') (fun _ _ _ => False) 0 0 0 (jargs 0 (vR 351 :: as)) [] (mput b s)) : MC y d b s as Q := AMet.of hpl hhh hsz k
theorem MCS.of {y : MI} {as : List AV} {Q : Option AV → MS → Prop} (hpl : plainName y.1.cls = true) (hhh : y.2.2.2.2 = []) (hsz : jsize as ≤ y.2.2.1) (k : JW y d (fun v h' => ∃ s', h' = mput b s' ∧ Q v s') (fun _ _ _ => False) 0 0 0 (jargs 0 as) [] (mput b s)) : MCS y d b s as Q := AMet.of hpl hhh hsz k
end
