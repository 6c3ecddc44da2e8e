/-! contracts of the reference: homeOf mostTail manyOf rounds round on -/
set_option maxRecDepth 100000
def HX3_homeOf_0 (Q : Option AV → MS → Prop) (b : AH) (s : MS) (x1 : Int) : Prop := MW mX3_homeOf 2 Q b 0 [(0, vR 351), (1, vI x1)] [] s
def HX3_homeOf_4 (Q : Option AV → MS → Prop) (b : AH) (s : MS) (x1 : Int) (x2 : Int) (x3 : Int) : Prop := MW mX3_homeOf 2 Q b 4 [(0, vR 351), (1, vI x1), (2, vI x2), (3, vI x3)] [] s
theorem bX3_homeOf_0 {Q : Option AV → MS → Prop} (b : AH) (s : MS) (x1 : Int) (K : HX3_homeOf_4 Q b s x1 x1 0) : HX3_homeOf_0 Q b s x1 := by
  refine JW.iload_n dX3_homeOf_0 rfl ?_
  refine JW.istore_n (ls' := [(0, vR 351), (1, vI x1), (2, vI x1)]) dX3_homeOf_1 (Nat.le_of_ble_eq_true rfl) rfl ?_
  refine JW.iconst dX3_homeOf_2 rfl ?_
  refine JW.istore_n (ls' := [(0, vR 351), (1, vI x1), (2, vI x1), (3, vI 0)]) dX3_homeOf_3 (Nat.le_of_ble_eq_true rfl) rfl ?_
  exact JW.pick [0, 1, 2, 3] rfl K
theorem bX3_homeOf_4 {Q : Option AV → MS → Prop} (b : AH) (s : MS) (x1 : Int) (x2 : Int) (x3 : Int) (K : ((s.2 6 2) ≤ x3 → Q (some (vI (-1))) s) ∧ (¬ (s.2 6 2) ≤ x3 → (x1 < 0 → Q (some (vI (-1))) s) ∧ (¬ x1 < 0 → (0 ≤ x3 ∧ x3 < 10000) ∧ ((¬ (bI ((s.2 15) x3 = x3)) = 0 → (¬ x2 = 0 → HX3_homeOf_4 Q b s x1 (i32 (x2 + (-1))) (i32 (x3 + 1))) ∧ (x2 = 0 → Q (some (vI x3)) s)) ∧ ((bI ((s.2 15) x3 = x3)) = 0 → HX3_homeOf_4 Q b s x1 x2 (i32 (x3 + 1))))))) : HX3_homeOf_4 Q b s x1 x2 x3 := by
  refine JW.iload_n dX3_homeOf_4 rfl ?_
  refine JW.aload_n dX3_homeOf_5 rfl ?_
  refine JW.mget (v := vR 358) dX3_homeOf_6 fX3_34 rfl ?_
  refine JW.iconst dX3_homeOf_9 rfl ?_
  refine JW.mald 6 (x := (s.2 6 2)) dX3_homeOf_10 (Nat.le_of_ble_eq_true rfl) rfl (by decide) (by decide) rfl ?_
  refine JW.icmp_ge (tgt := 44) dX3_homeOf_11 rfl (fun c_1 => ?_) (fun c_1 => ?_)
  · have K := K.1 c_1
    refine JW.iconst dX3_homeOf_44 rfl ?_
    exact JW.ireturn dX3_homeOf_45 rfl rfl ⟨_, rfl, K⟩
  · have K := K.2 c_1
    refine JW.iload_n dX3_homeOf_14 rfl ?_
    refine JW.if_lt (tgt := 44) dX3_homeOf_15 rfl (fun c_2 => ?_) (fun c_2 => ?_)
    · have K := K.1 c_2
      refine JW.iconst dX3_homeOf_44 rfl ?_
      exact JW.ireturn dX3_homeOf_45 rfl rfl ⟨_, rfl, K⟩
    · have K := K.2 c_2
      refine JW.aload_n dX3_homeOf_18 rfl ?_
      refine JW.iload_n dX3_homeOf_19 rfl ?_
      obtain ⟨o_3, K⟩ := K
      refine JW.mcall (As := [vI x3]) dX3_homeOf_20 vX3_isHome rfl q1899 (ctX3_isHome b s x3 o_3) (Nat.le_of_ble_eq_true rfl) rfl (Nat.le_of_ble_eq_true rfl) ?_
      rintro _ _ ⟨rfl, eq_4⟩
      refine JW.steq (s2 := s) eq_4 ?_
      refine JW.if_ne (tgt := 29) dX3_homeOf_23 rfl (fun c_5 => ?_) (fun c_5 => ?_)
      · have K := K.1 c_5
        refine JW.iload_n dX3_homeOf_29 rfl ?_
        refine JW.if_ne (tgt := 35) dX3_homeOf_30 rfl (fun c_6 => ?_) (fun c_6 => ?_)
        · have K := K.1 c_6
          refine JW.iinc (ls' := [(0, vR 351), (1, vI x1), (2, vI (i32 (x2 + (-1)))), (3, vI x3)]) dX3_homeOf_35 (Nat.le_of_ble_eq_true rfl) rfl rfl ?_
          refine JW.iinc (ls' := [(0, vR 351), (1, vI x1), (2, vI (i32 (x2 + (-1)))), (3, vI (i32 (x3 + 1)))]) dX3_homeOf_38 (Nat.le_of_ble_eq_true rfl) rfl rfl ?_
          refine JW.goto (tgt := 4) dX3_homeOf_41 rfl ?_
          exact JW.pick [0, 1, 2, 3] rfl K
        · have K := K.2 c_6
          refine JW.iload_n dX3_homeOf_33 rfl ?_
          exact JW.ireturn dX3_homeOf_34 rfl rfl ⟨_, rfl, K⟩
      · have K := K.2 c_5
        refine JW.goto (tgt := 38) dX3_homeOf_26 rfl ?_
        refine JW.iinc (ls' := [(0, vR 351), (1, vI x1), (2, vI x2), (3, vI (i32 (x3 + 1)))]) dX3_homeOf_38 (Nat.le_of_ble_eq_true rfl) rfl rfl ?_
        refine JW.goto (tgt := 4) dX3_homeOf_41 rfl ?_
        exact JW.pick [0, 1, 2, 3] rfl K
def QX3_homeOf (s : MS) (a1 : Int) : Option AV → MS → Prop := fun v s' => ∃ (r : Int), v = some (vI r) ∧ s' = s ∧ (isNth (fun x => (s.2 15) x = x) ((s.2 6) 2) a1 r)
theorem vX3_homeOf_1 (s : MS) (a1 : Int) (hp : tOK (s.2 6) ∧ (-2147483648 ≤ a1 ∧ a1 < 2147483648)) (x1 : Int) (x2 : Int) (x3 : Int) (hI : x1 = a1 ∧ (0 ≤ x3 ∧ x3 ≤ s.2 6 2) ∧ x2 = a1 - many (fun x => s.2 15 x = x) x3.toNat ∧ (0 ≤ a1 → 0 ≤ x2)) (c_1 : (s.2 6 2) ≤ x3) : isNth (fun x => (s.2 15) x = x) ((s.2 6) 2) a1 (-1) := by
  obtain ⟨ht, hi⟩ := hp
  have hN := tOK_N ht
  (try have hb := many_b (fun x => s.2 15 x = x) x3.toNat)
  (try unfold lex3)
  (try simp only [bI_0, bI_n, Classical.not_not] at *)
  (try simp (disch := omega) only [i32_id] at *)
  first | done | omega | ((repeat' (with_reducible apply And.intro)) <;> first | assumption | rfl | omega | (exact isNth_no (by rw [show (s.2 6 2).toNat = x3.toNat by omega]; omega)) | (exact isNth_no (by omega)) | (exact isNth_y (by omega) (by omega) (by assumption) (by omega)) | (have h9 := many_t (p := (fun x => s.2 15 x = x)) (k := x3) (by omega) (by assumption); omega) | (have h9 := many_f (p := (fun x => s.2 15 x = x)) (k := x3) (by omega) (by assumption); omega) | (have h9 : many ((fun x => s.2 15 x = x)) (0 : Int).toNat = 0 := rfl; omega) | grind [upI])
theorem vX3_homeOf_2 (s : MS) (a1 : Int) (hp : tOK (s.2 6) ∧ (-2147483648 ≤ a1 ∧ a1 < 2147483648)) (x1 : Int) (x2 : Int) (x3 : Int) (hI : x1 = a1 ∧ (0 ≤ x3 ∧ x3 ≤ s.2 6 2) ∧ x2 = a1 - many (fun x => s.2 15 x = x) x3.toNat ∧ (0 ≤ a1 → 0 ≤ x2)) (c_1 : ¬ (s.2 6 2) ≤ x3) (c_2 : x1 < 0) : isNth (fun x => (s.2 15) x = x) ((s.2 6) 2) a1 (-1) := by
  obtain ⟨ht, hi⟩ := hp
  have hN := tOK_N ht
  (try have hb := many_b (fun x => s.2 15 x = x) x3.toNat)
  (try unfold lex3)
  (try simp only [bI_0, bI_n, Classical.not_not] at *)
  (try simp (disch := omega) only [i32_id] at *)
  first | done | omega | ((repeat' (with_reducible apply And.intro)) <;> first | assumption | rfl | omega | (exact isNth_no (by rw [show (s.2 6 2).toNat = x3.toNat by omega]; omega)) | (exact isNth_no (by omega)) | (exact isNth_y (by omega) (by omega) (by assumption) (by omega)) | (have h9 := many_t (p := (fun x => s.2 15 x = x)) (k := x3) (by omega) (by assumption); omega) | (have h9 := many_f (p := (fun x => s.2 15 x = x)) (k := x3) (by omega) (by assumption); omega) | (have h9 : many ((fun x => s.2 15 x = x)) (0 : Int).toNat = 0 := rfl; omega) | grind [upI])
theorem vX3_homeOf_3 (s : MS) (a1 : Int) (hp : tOK (s.2 6) ∧ (-2147483648 ≤ a1 ∧ a1 < 2147483648)) (x1 : Int) (x2 : Int) (x3 : Int) (hI : x1 = a1 ∧ (0 ≤ x3 ∧ x3 ≤ s.2 6 2) ∧ x2 = a1 - many (fun x => s.2 15 x = x) x3.toNat ∧ (0 ≤ a1 → 0 ≤ x2)) (c_1 : ¬ (s.2 6 2) ≤ x3) (c_2 : ¬ x1 < 0) : (0 ≤ x3 ∧ x3 < 10000) := by
  obtain ⟨ht, hi⟩ := hp
  have hN := tOK_N ht
  (try have hb := many_b (fun x => s.2 15 x = x) x3.toNat)
  (try unfold lex3)
  (try simp only [bI_0, bI_n, Classical.not_not] at *)
  (try simp (disch := omega) only [i32_id] at *)
  first | done | omega | ((repeat' (with_reducible apply And.intro)) <;> first | assumption | rfl | omega | (exact isNth_no (by rw [show (s.2 6 2).toNat = x3.toNat by omega]; omega)) | (exact isNth_no (by omega)) | (exact isNth_y (by omega) (by omega) (by assumption) (by omega)) | (have h9 := many_t (p := (fun x => s.2 15 x = x)) (k := x3) (by omega) (by assumption); omega) | (have h9 := many_f (p := (fun x => s.2 15 x = x)) (k := x3) (by omega) (by assumption); omega) | (have h9 : many ((fun x => s.2 15 x = x)) (0 : Int).toNat = 0 := rfl; omega) | grind [upI])
theorem vX3_homeOf_4 (s : MS) (a1 : Int) (hp : tOK (s.2 6) ∧ (-2147483648 ≤ a1 ∧ a1 < 2147483648)) (x1 : Int) (x2 : Int) (x3 : Int) (hI : x1 = a1 ∧ (0 ≤ x3 ∧ x3 ≤ s.2 6 2) ∧ x2 = a1 - many (fun x => s.2 15 x = x) x3.toNat ∧ (0 ≤ a1 → 0 ≤ x2)) (c_1 : ¬ (s.2 6 2) ≤ x3) (c_2 : ¬ x1 < 0) (o_3 : (0 ≤ x3 ∧ x3 < 10000)) (c_5 : ¬ (bI ((s.2 15) x3 = x3)) = 0) (c_6 : ¬ x2 = 0) : x1 = a1 ∧ (0 ≤ (i32 (x3 + 1)) ∧ (i32 (x3 + 1)) ≤ s.2 6 2) ∧ (i32 (x2 + (-1))) = a1 - many (fun x => s.2 15 x = x) (i32 (x3 + 1)).toNat ∧ (0 ≤ a1 → 0 ≤ (i32 (x2 + (-1)))) := by
  obtain ⟨ht, hi⟩ := hp
  have hN := tOK_N ht
  (try have hb := many_b (fun x => s.2 15 x = x) x3.toNat)
  (try unfold lex3)
  (try simp only [bI_0, bI_n, Classical.not_not] at *)
  (try simp (disch := omega) only [i32_id] at *)
  first | done | omega | ((repeat' (with_reducible apply And.intro)) <;> first | assumption | rfl | omega | (exact isNth_no (by rw [show (s.2 6 2).toNat = x3.toNat by omega]; omega)) | (exact isNth_no (by omega)) | (exact isNth_y (by omega) (by omega) (by assumption) (by omega)) | (have h9 := many_t (p := (fun x => s.2 15 x = x)) (k := x3) (by omega) (by assumption); omega) | (have h9 := many_f (p := (fun x => s.2 15 x = x)) (k := x3) (by omega) (by assumption); omega) | (have h9 : many ((fun x => s.2 15 x = x)) (0 : Int).toNat = 0 := rfl; omega) | grind [upI])
theorem vX3_homeOf_5 (s : MS) (a1 : Int) (hp : tOK (s.2 6) ∧ (-2147483648 ≤ a1 ∧ a1 < 2147483648)) (x1 : Int) (x2 : Int) (x3 : Int) (hI : x1 = a1 ∧ (0 ≤ x3 ∧ x3 ≤ s.2 6 2) ∧ x2 = a1 - many (fun x => s.2 15 x = x) x3.toNat ∧ (0 ≤ a1 → 0 ≤ x2)) (c_1 : ¬ (s.2 6 2) ≤ x3) (c_2 : ¬ x1 < 0) (o_3 : (0 ≤ x3 ∧ x3 < 10000)) (c_5 : ¬ (bI ((s.2 15) x3 = x3)) = 0) (c_6 : ¬ x2 = 0) : lex3 0 0 ((s.2 6 2 - (i32 (x3 + 1))).toNat) 0 0 ((s.2 6 2 - x3).toNat) := by
  obtain ⟨ht, hi⟩ := hp
  have hN := tOK_N ht
  (try have hb := many_b (fun x => s.2 15 x = x) x3.toNat)
  (try unfold lex3)
  (try simp only [bI_0, bI_n, Classical.not_not] at *)
  (try simp (disch := omega) only [i32_id] at *)
  first | done | omega | ((repeat' (with_reducible apply And.intro)) <;> first | assumption | rfl | omega | (exact isNth_no (by rw [show (s.2 6 2).toNat = x3.toNat by omega]; omega)) | (exact isNth_no (by omega)) | (exact isNth_y (by omega) (by omega) (by assumption) (by omega)) | (have h9 := many_t (p := (fun x => s.2 15 x = x)) (k := x3) (by omega) (by assumption); omega) | (have h9 := many_f (p := (fun x => s.2 15 x = x)) (k := x3) (by omega) (by assumption); omega) | (have h9 : many ((fun x => s.2 15 x = x)) (0 : Int).toNat = 0 := rfl; omega) | grind [upI])
theorem vX3_homeOf_6 (s : MS) (a1 : Int) (hp : tOK (s.2 6) ∧ (-2147483648 ≤ a1 ∧ a1 < 2147483648)) (x1 : Int) (x2 : Int) (x3 : Int) (hI : x1 = a1 ∧ (0 ≤ x3 ∧ x3 ≤ s.2 6 2) ∧ x2 = a1 - many (fun x => s.2 15 x = x) x3.toNat ∧ (0 ≤ a1 → 0 ≤ x2)) (c_1 : ¬ (s.2 6 2) ≤ x3) (c_2 : ¬ x1 < 0) (o_3 : (0 ≤ x3 ∧ x3 < 10000)) (c_5 : ¬ (bI ((s.2 15) x3 = x3)) = 0) (c_6 : x2 = 0) : isNth (fun x => (s.2 15) x = x) ((s.2 6) 2) a1 x3 := by
  obtain ⟨ht, hi⟩ := hp
  have hN := tOK_N ht
  (try have hb := many_b (fun x => s.2 15 x = x) x3.toNat)
  (try unfold lex3)
  (try simp only [bI_0, bI_n, Classical.not_not] at *)
  (try simp (disch := omega) only [i32_id] at *)
  first | done | omega | ((repeat' (with_reducible apply And.intro)) <;> first | assumption | rfl | omega | (exact isNth_no (by rw [show (s.2 6 2).toNat = x3.toNat by omega]; omega)) | (exact isNth_no (by omega)) | (exact isNth_y (by omega) (by omega) (by assumption) (by omega)) | (have h9 := many_t (p := (fun x => s.2 15 x = x)) (k := x3) (by omega) (by assumption); omega) | (have h9 := many_f (p := (fun x => s.2 15 x = x)) (k := x3) (by omega) (by assumption); omega) | (have h9 : many ((fun x => s.2 15 x = x)) (0 : Int).toNat = 0 := rfl; omega) | grind [upI])
theorem vX3_homeOf_7 (s : MS) (a1 : Int) (hp : tOK (s.2 6) ∧ (-2147483648 ≤ a1 ∧ a1 < 2147483648)) (x1 : Int) (x2 : Int) (x3 : Int) (hI : x1 = a1 ∧ (0 ≤ x3 ∧ x3 ≤ s.2 6 2) ∧ x2 = a1 - many (fun x => s.2 15 x = x) x3.toNat ∧ (0 ≤ a1 → 0 ≤ x2)) (c_1 : ¬ (s.2 6 2) ≤ x3) (c_2 : ¬ x1 < 0) (o_3 : (0 ≤ x3 ∧ x3 < 10000)) (c_5 : (bI ((s.2 15) x3 = x3)) = 0) : x1 = a1 ∧ (0 ≤ (i32 (x3 + 1)) ∧ (i32 (x3 + 1)) ≤ s.2 6 2) ∧ x2 = a1 - many (fun x => s.2 15 x = x) (i32 (x3 + 1)).toNat ∧ (0 ≤ a1 → 0 ≤ x2) := by
  obtain ⟨ht, hi⟩ := hp
  have hN := tOK_N ht
  (try have hb := many_b (fun x => s.2 15 x = x) x3.toNat)
  (try unfold lex3)
  (try simp only [bI_0, bI_n, Classical.not_not] at *)
  (try simp (disch := omega) only [i32_id] at *)
  first | done | omega | ((repeat' (with_reducible apply And.intro)) <;> first | assumption | rfl | omega | (exact isNth_no (by rw [show (s.2 6 2).toNat = x3.toNat by omega]; omega)) | (exact isNth_no (by omega)) | (exact isNth_y (by omega) (by omega) (by assumption) (by omega)) | (have h9 := many_t (p := (fun x => s.2 15 x = x)) (k := x3) (by omega) (by assumption); omega) | (have h9 := many_f (p := (fun x => s.2 15 x = x)) (k := x3) (by omega) (by assumption); omega) | (have h9 : many ((fun x => s.2 15 x = x)) (0 : Int).toNat = 0 := rfl; omega) | grind [upI])
theorem vX3_homeOf_8 (s : MS) (a1 : Int) (hp : tOK (s.2 6) ∧ (-2147483648 ≤ a1 ∧ a1 < 2147483648)) (x1 : Int) (x2 : Int) (x3 : Int) (hI : x1 = a1 ∧ (0 ≤ x3 ∧ x3 ≤ s.2 6 2) ∧ x2 = a1 - many (fun x => s.2 15 x = x) x3.toNat ∧ (0 ≤ a1 → 0 ≤ x2)) (c_1 : ¬ (s.2 6 2) ≤ x3) (c_2 : ¬ x1 < 0) (o_3 : (0 ≤ x3 ∧ x3 < 10000)) (c_5 : (bI ((s.2 15) x3 = x3)) = 0) : lex3 0 0 ((s.2 6 2 - (i32 (x3 + 1))).toNat) 0 0 ((s.2 6 2 - x3).toNat) := by
  obtain ⟨ht, hi⟩ := hp
  have hN := tOK_N ht
  (try have hb := many_b (fun x => s.2 15 x = x) x3.toNat)
  (try unfold lex3)
  (try simp only [bI_0, bI_n, Classical.not_not] at *)
  (try simp (disch := omega) only [i32_id] at *)
  first | done | omega | ((repeat' (with_reducible apply And.intro)) <;> first | assumption | rfl | omega | (exact isNth_no (by rw [show (s.2 6 2).toNat = x3.toNat by omega]; omega)) | (exact isNth_no (by omega)) | (exact isNth_y (by omega) (by omega) (by assumption) (by omega)) | (have h9 := many_t (p := (fun x => s.2 15 x = x)) (k := x3) (by omega) (by assumption); omega) | (have h9 := many_f (p := (fun x => s.2 15 x = x)) (k := x3) (by omega) (by assumption); omega) | (have h9 : many ((fun x => s.2 15 x = x)) (0 : Int).toNat = 0 := rfl; omega) | grind [upI])
theorem vX3_homeOf_9 (s : MS) (a1 : Int) (hp : tOK (s.2 6) ∧ (-2147483648 ≤ a1 ∧ a1 < 2147483648)) : a1 = a1 ∧ (0 ≤ (0 : Int) ∧ (0 : Int) ≤ s.2 6 2) ∧ a1 = a1 - many (fun x => s.2 15 x = x) (0 : Int).toNat ∧ (0 ≤ a1 → 0 ≤ a1) := by
  obtain ⟨ht, hi⟩ := hp
  have hN := tOK_N ht
  (try have hb := many_b (fun x => s.2 15 x = x) x3.toNat)
  (try unfold lex3)
  (try simp only [bI_0, bI_n, Classical.not_not] at *)
  (try simp (disch := omega) only [i32_id] at *)
  first | done | omega | ((repeat' (with_reducible apply And.intro)) <;> first | assumption | rfl | omega | (exact isNth_no (by rw [show (s.2 6 2).toNat = x3.toNat by omega]; omega)) | (exact isNth_no (by omega)) | (exact isNth_y (by omega) (by omega) (by assumption) (by omega)) | (have h9 := many_t (p := (fun x => s.2 15 x = x)) (k := x3) (by omega) (by assumption); omega) | (have h9 := many_f (p := (fun x => s.2 15 x = x)) (k := x3) (by omega) (by assumption); omega) | (have h9 : many ((fun x => s.2 15 x = x)) (0 : Int).toNat = 0 := rfl; omega) | grind [upI])
theorem allX3_homeOf (b : AH) (s : MS) (a1 : Int) (hp : tOK (s.2 6) ∧ (-2147483648 ≤ a1 ∧ a1 < 2147483648)) : ∀ m1 m2 m3 : Nat, (∀ (x1 : Int) (x2 : Int) (x3 : Int), m1 = 0 → m2 = 0 → m3 = ((s.2 6 2 - x3).toNat) → (x1 = a1 ∧ (0 ≤ x3 ∧ x3 ≤ s.2 6 2) ∧ x2 = a1 - many (fun x => s.2 15 x = x) x3.toNat ∧ (0 ≤ a1 → 0 ≤ x2)) → HX3_homeOf_4 (QX3_homeOf s a1) b s x1 x2 x3) := by
  refine lex3_ind ?_
  intro m1 m2 m3 ih
  rintro x1 x2 x3 rfl rfl rfl hI
  refine bX3_homeOf_4 b s x1 x2 x3 ?_
  refine ⟨fun c_1 => ?_, fun c_1 => ?_⟩
  · exact ⟨(-1), rfl, rfl, (vX3_homeOf_1 s a1 hp x1 x2 x3 hI c_1)⟩
  · refine ⟨fun c_2 => ?_, fun c_2 => ?_⟩
    · exact ⟨(-1), rfl, rfl, (vX3_homeOf_2 s a1 hp x1 x2 x3 hI c_1 c_2)⟩
    · have o_3 : (0 ≤ x3 ∧ x3 < 10000) := (vX3_homeOf_3 s a1 hp x1 x2 x3 hI c_1 c_2)
      refine ⟨o_3, ?_⟩
      refine ⟨fun c_5 => ?_, fun c_5 => ?_⟩
      · refine ⟨fun c_6 => ?_, fun c_6 => ?_⟩
        · exact (ih _ _ _ (vX3_homeOf_5 s a1 hp x1 x2 x3 hI c_1 c_2 o_3 c_5 c_6)) x1 (i32 (x2 + (-1))) (i32 (x3 + 1)) rfl rfl rfl (vX3_homeOf_4 s a1 hp x1 x2 x3 hI c_1 c_2 o_3 c_5 c_6)
        · exact ⟨x3, rfl, rfl, (vX3_homeOf_6 s a1 hp x1 x2 x3 hI c_1 c_2 o_3 c_5 c_6)⟩
      · exact (ih _ _ _ (vX3_homeOf_8 s a1 hp x1 x2 x3 hI c_1 c_2 o_3 c_5)) x1 x2 (i32 (x3 + 1)) rfl rfl rfl (vX3_homeOf_7 s a1 hp x1 x2 x3 hI c_1 c_2 o_3 c_5)
theorem ctX3_homeOf (b : AH) (s : MS) (a1 : Int) (hp : tOK (s.2 6) ∧ (-2147483648 ≤ a1 ∧ a1 < 2147483648)) : MC mX3_homeOf 2 b s [vI a1] (QX3_homeOf s a1) := by
  refine MC.of (by decide) rfl (Nat.le_of_ble_eq_true rfl) ?_
  refine bX3_homeOf_0 b s a1 ?_
  exact (allX3_homeOf b s a1 hp _ _ _) a1 a1 0 rfl rfl rfl (vX3_homeOf_9 s a1 hp)
def HX3_mostTail_0 (Q : Option AV → MS → Prop) (b : AH) (s : MS) : Prop := MW mX3_mostTail 1 Q b 0 [(0, vR 351)] [] s
def HX3_mostTail_4 (Q : Option AV → MS → Prop) (b : AH) (s : MS) (x1 : Int) (x2 : Int) : Prop := MW mX3_mostTail 1 Q b 4 [(0, vR 351), (1, vI x1), (2, vI x2)] [] s
theorem bX3_mostTail_0 {Q : Option AV → MS → Prop} (b : AH) (s : MS) (K : HX3_mostTail_4 Q b s 0 0) : HX3_mostTail_0 Q b s  := by
  refine JW.iconst dX3_mostTail_0 rfl ?_
  refine JW.istore_n (ls' := [(0, vR 351), (1, vI 0)]) dX3_mostTail_1 (Nat.le_of_ble_eq_true rfl) rfl ?_
  refine JW.iconst dX3_mostTail_2 rfl ?_
  refine JW.istore_n (ls' := [(0, vR 351), (1, vI 0), (2, vI 0)]) dX3_mostTail_3 (Nat.le_of_ble_eq_true rfl) rfl ?_
  exact JW.pick [0, 1, 2] rfl K
theorem bX3_mostTail_4 {Q : Option AV → MS → Prop} (b : AH) (s : MS) (x1 : Int) (x2 : Int) (K : ((s.2 6 2) ≤ x2 → Q (some (vI x1)) s) ∧ (¬ (s.2 6 2) ≤ x2 → (0 ≤ x2 ∧ x2 < 10000) ∧ (((s.2 14 x2) ≤ x1 → HX3_mostTail_4 Q b s x1 (i32 (x2 + 1))) ∧ (¬ (s.2 14 x2) ≤ x1 → HX3_mostTail_4 Q b s (s.2 14 x2) (i32 (x2 + 1)))))) : HX3_mostTail_4 Q b s x1 x2 := by
  refine JW.iload_n dX3_mostTail_4 rfl ?_
  refine JW.aload_n dX3_mostTail_5 rfl ?_
  refine JW.mget (v := vR 358) dX3_mostTail_6 fX3_34 rfl ?_
  refine JW.iconst dX3_mostTail_9 rfl ?_
  refine JW.mald 6 (x := (s.2 6 2)) dX3_mostTail_10 (Nat.le_of_ble_eq_true rfl) rfl (by decide) (by decide) rfl ?_
  refine JW.icmp_ge (tgt := 41) dX3_mostTail_11 rfl (fun c_1 => ?_) (fun c_1 => ?_)
  · have K := K.1 c_1
    refine JW.iload_n dX3_mostTail_41 rfl ?_
    exact JW.ireturn dX3_mostTail_42 rfl rfl ⟨_, rfl, K⟩
  · have K := K.2 c_1
    refine JW.aload_n dX3_mostTail_14 rfl ?_
    refine JW.mget (v := vR 366) dX3_mostTail_15 fX3_59 rfl ?_
    refine JW.iload_n dX3_mostTail_18 rfl ?_
    obtain ⟨o_2, K⟩ := K
    refine JW.mald 14 (x := (s.2 14 x2)) dX3_mostTail_19 (Nat.le_of_ble_eq_true rfl) rfl o_2.1 o_2.2 rfl ?_
    refine JW.iload_n dX3_mostTail_20 rfl ?_
    refine JW.icmp_le (tgt := 33) dX3_mostTail_21 rfl (fun c_3 => ?_) (fun c_3 => ?_)
    · have K := K.1 c_3
      refine JW.iload_n dX3_mostTail_33 rfl ?_
      refine JW.istore_n (ls' := [(0, vR 351), (1, vI x1), (2, vI x2)]) dX3_mostTail_34 (Nat.le_of_ble_eq_true rfl) rfl ?_
      refine JW.iinc (ls' := [(0, vR 351), (1, vI x1), (2, vI (i32 (x2 + 1)))]) dX3_mostTail_35 (Nat.le_of_ble_eq_true rfl) rfl rfl ?_
      refine JW.goto (tgt := 4) dX3_mostTail_38 rfl ?_
      exact JW.pick [0, 1, 2] rfl K
    · have K := K.2 c_3
      refine JW.aload_n dX3_mostTail_24 rfl ?_
      refine JW.mget (v := vR 366) dX3_mostTail_25 fX3_59 rfl ?_
      refine JW.iload_n dX3_mostTail_28 rfl ?_
      refine JW.mald 14 (x := (s.2 14 x2)) dX3_mostTail_29 (Nat.le_of_ble_eq_true rfl) rfl o_2.1 o_2.2 rfl ?_
      refine JW.goto (tgt := 34) dX3_mostTail_30 rfl ?_
      refine JW.istore_n (ls' := [(0, vR 351), (1, vI (s.2 14 x2)), (2, vI x2)]) dX3_mostTail_34 (Nat.le_of_ble_eq_true rfl) rfl ?_
      refine JW.iinc (ls' := [(0, vR 351), (1, vI (s.2 14 x2)), (2, vI (i32 (x2 + 1)))]) dX3_mostTail_35 (Nat.le_of_ble_eq_true rfl) rfl rfl ?_
      refine JW.goto (tgt := 4) dX3_mostTail_38 rfl ?_
      exact JW.pick [0, 1, 2] rfl K
def QX3_mostTail (s : MS) : Option AV → MS → Prop := fun v s' => v = some (vI (maxI 0 (s.2 14) ((s.2 6) 2).toNat)) ∧ s' = s
theorem vX3_mostTail_1 (s : MS) (hp : tOK (s.2 6)) (x1 : Int) (x2 : Int) (hI : (0 ≤ x2 ∧ x2 ≤ s.2 6 2) ∧ x1 = maxI 0 (s.2 14) x2.toNat) (c_1 : (s.2 6 2) ≤ x2) : x1 = (maxI 0 (s.2 14) ((s.2 6) 2).toNat) := by
  have hN := tOK_N hp
  (try have hs := maxI_s 0 (s.2 14) hI.1.1)
  (try unfold lex3)
  (try simp only [bI_0, bI_n, Classical.not_not] at *)
  (try simp (disch := omega) only [i32_id] at *)
  first | done | omega | ((repeat' (with_reducible apply And.intro)) <;> first | assumption | rfl | omega | (rw [hI.2, show x2 = s.2 6 2 by omega]) | (rw [if_pos (by omega)] at hs; omega) | (rw [if_neg (by omega)] at hs; omega) | grind [upI])
theorem vX3_mostTail_2 (s : MS) (hp : tOK (s.2 6)) (x1 : Int) (x2 : Int) (hI : (0 ≤ x2 ∧ x2 ≤ s.2 6 2) ∧ x1 = maxI 0 (s.2 14) x2.toNat) (c_1 : ¬ (s.2 6 2) ≤ x2) : (0 ≤ x2 ∧ x2 < 10000) := by
  have hN := tOK_N hp
  (try have hs := maxI_s 0 (s.2 14) hI.1.1)
  (try unfold lex3)
  (try simp only [bI_0, bI_n, Classical.not_not] at *)
  (try simp (disch := omega) only [i32_id] at *)
  first | done | omega | ((repeat' (with_reducible apply And.intro)) <;> first | assumption | rfl | omega | (rw [hI.2, show x2 = s.2 6 2 by omega]) | (rw [if_pos (by omega)] at hs; omega) | (rw [if_neg (by omega)] at hs; omega) | grind [upI])
theorem vX3_mostTail_3 (s : MS) (hp : tOK (s.2 6)) (x1 : Int) (x2 : Int) (hI : (0 ≤ x2 ∧ x2 ≤ s.2 6 2) ∧ x1 = maxI 0 (s.2 14) x2.toNat) (c_1 : ¬ (s.2 6 2) ≤ x2) (o_2 : (0 ≤ x2 ∧ x2 < 10000)) (c_3 : (s.2 14 x2) ≤ x1) : (0 ≤ (i32 (x2 + 1)) ∧ (i32 (x2 + 1)) ≤ s.2 6 2) ∧ x1 = maxI 0 (s.2 14) (i32 (x2 + 1)).toNat := by
  have hN := tOK_N hp
  (try have hs := maxI_s 0 (s.2 14) hI.1.1)
  (try unfold lex3)
  (try simp only [bI_0, bI_n, Classical.not_not] at *)
  (try simp (disch := omega) only [i32_id] at *)
  first | done | omega | ((repeat' (with_reducible apply And.intro)) <;> first | assumption | rfl | omega | (rw [hI.2, show x2 = s.2 6 2 by omega]) | (rw [if_pos (by omega)] at hs; omega) | (rw [if_neg (by omega)] at hs; omega) | grind [upI])
theorem vX3_mostTail_4 (s : MS) (hp : tOK (s.2 6)) (x1 : Int) (x2 : Int) (hI : (0 ≤ x2 ∧ x2 ≤ s.2 6 2) ∧ x1 = maxI 0 (s.2 14) x2.toNat) (c_1 : ¬ (s.2 6 2) ≤ x2) (o_2 : (0 ≤ x2 ∧ x2 < 10000)) (c_3 : (s.2 14 x2) ≤ x1) : lex3 0 0 ((s.2 6 2 - (i32 (x2 + 1))).toNat) 0 0 ((s.2 6 2 - x2).toNat) := by
  have hN := tOK_N hp
  (try have hs := maxI_s 0 (s.2 14) hI.1.1)
  (try unfold lex3)
  (try simp only [bI_0, bI_n, Classical.not_not] at *)
  (try simp (disch := omega) only [i32_id] at *)
  first | done | omega | ((repeat' (with_reducible apply And.intro)) <;> first | assumption | rfl | omega | (rw [hI.2, show x2 = s.2 6 2 by omega]) | (rw [if_pos (by omega)] at hs; omega) | (rw [if_neg (by omega)] at hs; omega) | grind [upI])
theorem vX3_mostTail_5 (s : MS) (hp : tOK (s.2 6)) (x1 : Int) (x2 : Int) (hI : (0 ≤ x2 ∧ x2 ≤ s.2 6 2) ∧ x1 = maxI 0 (s.2 14) x2.toNat) (c_1 : ¬ (s.2 6 2) ≤ x2) (o_2 : (0 ≤ x2 ∧ x2 < 10000)) (c_3 : ¬ (s.2 14 x2) ≤ x1) : (0 ≤ (i32 (x2 + 1)) ∧ (i32 (x2 + 1)) ≤ s.2 6 2) ∧ (s.2 14 x2) = maxI 0 (s.2 14) (i32 (x2 + 1)).toNat := by
  have hN := tOK_N hp
  (try have hs := maxI_s 0 (s.2 14) hI.1.1)
  (try unfold lex3)
  (try simp only [bI_0, bI_n, Classical.not_not] at *)
  (try simp (disch := omega) only [i32_id] at *)
  first | done | omega | ((repeat' (with_reducible apply And.intro)) <;> first | assumption | rfl | omega | (rw [hI.2, show x2 = s.2 6 2 by omega]) | (rw [if_pos (by omega)] at hs; omega) | (rw [if_neg (by omega)] at hs; omega) | grind [upI])
theorem vX3_mostTail_6 (s : MS) (hp : tOK (s.2 6)) (x1 : Int) (x2 : Int) (hI : (0 ≤ x2 ∧ x2 ≤ s.2 6 2) ∧ x1 = maxI 0 (s.2 14) x2.toNat) (c_1 : ¬ (s.2 6 2) ≤ x2) (o_2 : (0 ≤ x2 ∧ x2 < 10000)) (c_3 : ¬ (s.2 14 x2) ≤ x1) : lex3 0 0 ((s.2 6 2 - (i32 (x2 + 1))).toNat) 0 0 ((s.2 6 2 - x2).toNat) := by
  have hN := tOK_N hp
  (try have hs := maxI_s 0 (s.2 14) hI.1.1)
  (try unfold lex3)
  (try simp only [bI_0, bI_n, Classical.not_not] at *)
  (try simp (disch := omega) only [i32_id] at *)
  first | done | omega | ((repeat' (with_reducible apply And.intro)) <;> first | assumption | rfl | omega | (rw [hI.2, show x2 = s.2 6 2 by omega]) | (rw [if_pos (by omega)] at hs; omega) | (rw [if_neg (by omega)] at hs; omega) | grind [upI])
theorem vX3_mostTail_7 (s : MS) (hp : tOK (s.2 6)) : (0 ≤ (0 : Int) ∧ (0 : Int) ≤ s.2 6 2) ∧ (0 : Int) = maxI 0 (s.2 14) (0 : Int).toNat := by
  have hN := tOK_N hp
  (try have hs := maxI_s 0 (s.2 14) hI.1.1)
  (try unfold lex3)
  (try simp only [bI_0, bI_n, Classical.not_not] at *)
  (try simp (disch := omega) only [i32_id] at *)
  first | done | omega | ((repeat' (with_reducible apply And.intro)) <;> first | assumption | rfl | omega | (rw [hI.2, show x2 = s.2 6 2 by omega]) | (rw [if_pos (by omega)] at hs; omega) | (rw [if_neg (by omega)] at hs; omega) | grind [upI])
theorem allX3_mostTail (b : AH) (s : MS) (hp : tOK (s.2 6)) : ∀ m1 m2 m3 : Nat, (∀ (x1 : Int) (x2 : Int), m1 = 0 → m2 = 0 → m3 = ((s.2 6 2 - x2).toNat) → ((0 ≤ x2 ∧ x2 ≤ s.2 6 2) ∧ x1 = maxI 0 (s.2 14) x2.toNat) → HX3_mostTail_4 (QX3_mostTail s) b s x1 x2) := by
  refine lex3_ind ?_
  intro m1 m2 m3 ih
  rintro x1 x2 rfl rfl rfl hI
  refine bX3_mostTail_4 b s x1 x2 ?_
  refine ⟨fun c_1 => ?_, fun c_1 => ?_⟩
  · exact ⟨(rI_c (vX3_mostTail_1 s hp x1 x2 hI c_1)), rfl⟩
  · have o_2 : (0 ≤ x2 ∧ x2 < 10000) := (vX3_mostTail_2 s hp x1 x2 hI c_1)
    refine ⟨o_2, ?_⟩
    refine ⟨fun c_3 => ?_, fun c_3 => ?_⟩
    · exact (ih _ _ _ (vX3_mostTail_4 s hp x1 x2 hI c_1 o_2 c_3)) x1 (i32 (x2 + 1)) rfl rfl rfl (vX3_mostTail_3 s hp x1 x2 hI c_1 o_2 c_3)
    · exact (ih _ _ _ (vX3_mostTail_6 s hp x1 x2 hI c_1 o_2 c_3)) (s.2 14 x2) (i32 (x2 + 1)) rfl rfl rfl (vX3_mostTail_5 s hp x1 x2 hI c_1 o_2 c_3)
theorem ctX3_mostTail (b : AH) (s : MS) (hp : tOK (s.2 6)) : MC mX3_mostTail 1 b s [] (QX3_mostTail s) := by
  refine MC.of (by decide) rfl (Nat.le_of_ble_eq_true rfl) ?_
  refine bX3_mostTail_0 b s  ?_
  exact (allX3_mostTail b s hp _ _ _) 0 0 rfl rfl rfl (vX3_mostTail_7 s hp)
def HX3_manyOf_0 (Q : Option AV → MS → Prop) (b : AH) (s : MS) (x1 : Int) : Prop := MW mX3_manyOf 1 Q b 0 [(0, vR 351), (1, vI x1)] [] s
def HX3_manyOf_4 (Q : Option AV → MS → Prop) (b : AH) (s : MS) (x1 : Int) (x2 : Int) (x3 : Int) : Prop := MW mX3_manyOf 1 Q b 4 [(0, vR 351), (1, vI x1), (2, vI x2), (3, vI x3)] [] s
theorem bX3_manyOf_0 {Q : Option AV → MS → Prop} (b : AH) (s : MS) (x1 : Int) (K : HX3_manyOf_4 Q b s x1 0 0) : HX3_manyOf_0 Q b s x1 := by
  refine JW.iconst dX3_manyOf_0 rfl ?_
  refine JW.istore_n (ls' := [(0, vR 351), (1, vI x1), (2, vI 0)]) dX3_manyOf_1 (Nat.le_of_ble_eq_true rfl) rfl ?_
  refine JW.iconst dX3_manyOf_2 rfl ?_
  refine JW.istore_n (ls' := [(0, vR 351), (1, vI x1), (2, vI 0), (3, vI 0)]) dX3_manyOf_3 (Nat.le_of_ble_eq_true rfl) rfl ?_
  exact JW.pick [0, 1, 2, 3] rfl K
theorem bX3_manyOf_4 {Q : Option AV → MS → Prop} (b : AH) (s : MS) (x1 : Int) (x2 : Int) (x3 : Int) (K : ((s.2 6 2) ≤ x3 → Q (some (vI x2)) s) ∧ (¬ (s.2 6 2) ≤ x3 → (0 ≤ x3 ∧ x3 < 10000) ∧ ((¬ (s.2 14 x3) = x1 → HX3_manyOf_4 Q b s x1 (i32 (x2 + 0)) (i32 (x3 + 1))) ∧ ((s.2 14 x3) = x1 → HX3_manyOf_4 Q b s x1 (i32 (x2 + 1)) (i32 (x3 + 1)))))) : HX3_manyOf_4 Q b s x1 x2 x3 := by
  refine JW.iload_n dX3_manyOf_4 rfl ?_
  refine JW.aload_n dX3_manyOf_5 rfl ?_
  refine JW.mget (v := vR 358) dX3_manyOf_6 fX3_34 rfl ?_
  refine JW.iconst dX3_manyOf_9 rfl ?_
  refine JW.mald 6 (x := (s.2 6 2)) dX3_manyOf_10 (Nat.le_of_ble_eq_true rfl) rfl (by decide) (by decide) rfl ?_
  refine JW.icmp_ge (tgt := 38) dX3_manyOf_11 rfl (fun c_1 => ?_) (fun c_1 => ?_)
  · have K := K.1 c_1
    refine JW.iload_n dX3_manyOf_38 rfl ?_
    exact JW.ireturn dX3_manyOf_39 rfl rfl ⟨_, rfl, K⟩
  · have K := K.2 c_1
    refine JW.iload_n dX3_manyOf_14 rfl ?_
    refine JW.aload_n dX3_manyOf_15 rfl ?_
    refine JW.mget (v := vR 366) dX3_manyOf_16 fX3_59 rfl ?_
    refine JW.iload_n dX3_manyOf_19 rfl ?_
    obtain ⟨o_2, K⟩ := K
    refine JW.mald 14 (x := (s.2 14 x3)) dX3_manyOf_20 (Nat.le_of_ble_eq_true rfl) rfl o_2.1 o_2.2 rfl ?_
    refine JW.iload_n dX3_manyOf_21 rfl ?_
    refine JW.icmp_ne (tgt := 29) dX3_manyOf_22 rfl (fun c_3 => ?_) (fun c_3 => ?_)
    · have K := K.1 c_3
      refine JW.iconst dX3_manyOf_29 rfl ?_
      refine JW.iadd dX3_manyOf_30 ?_
      refine JW.istore_n (ls' := [(0, vR 351), (1, vI x1), (2, vI (i32 (x2 + 0))), (3, vI x3)]) dX3_manyOf_31 (Nat.le_of_ble_eq_true rfl) rfl ?_
      refine JW.iinc (ls' := [(0, vR 351), (1, vI x1), (2, vI (i32 (x2 + 0))), (3, vI (i32 (x3 + 1)))]) dX3_manyOf_32 (Nat.le_of_ble_eq_true rfl) rfl rfl ?_
      refine JW.goto (tgt := 4) dX3_manyOf_35 rfl ?_
      exact JW.pick [0, 1, 2, 3] rfl K
    · have K := K.2 c_3
      refine JW.iconst dX3_manyOf_25 rfl ?_
      refine JW.goto (tgt := 30) dX3_manyOf_26 rfl ?_
      refine JW.iadd dX3_manyOf_30 ?_
      refine JW.istore_n (ls' := [(0, vR 351), (1, vI x1), (2, vI (i32 (x2 + 1))), (3, vI x3)]) dX3_manyOf_31 (Nat.le_of_ble_eq_true rfl) rfl ?_
      refine JW.iinc (ls' := [(0, vR 351), (1, vI x1), (2, vI (i32 (x2 + 1))), (3, vI (i32 (x3 + 1)))]) dX3_manyOf_32 (Nat.le_of_ble_eq_true rfl) rfl rfl ?_
      refine JW.goto (tgt := 4) dX3_manyOf_35 rfl ?_
      exact JW.pick [0, 1, 2, 3] rfl K
def QX3_manyOf (s : MS) (a1 : Int) : Option AV → MS → Prop := fun v s' => v = some (vI (many (fun x => (s.2 14) x = a1) ((s.2 6) 2).toNat)) ∧ s' = s
theorem vX3_manyOf_1 (s : MS) (a1 : Int) (hp : tOK (s.2 6)) (x1 : Int) (x2 : Int) (x3 : Int) (hI : x1 = a1 ∧ (0 ≤ x3 ∧ x3 ≤ s.2 6 2) ∧ x2 = many (fun x => s.2 14 x = a1) x3.toNat) (c_1 : (s.2 6 2) ≤ x3) : x2 = (many (fun x => (s.2 14) x = a1) ((s.2 6) 2).toNat) := by
  have hN := tOK_N hp
  (try have hb := many_b (fun x => s.2 14 x = a1) x3.toNat)
  (try rw [hI.1] at *)
  (try unfold lex3)
  (try simp only [bI_0, bI_n, Classical.not_not] at *)
  (try simp (disch := omega) only [i32_id] at *)
  first | done | omega | ((repeat' (with_reducible apply And.intro)) <;> first | assumption | rfl | omega | (rw [hI.2.2, show x3 = s.2 6 2 by omega]) | (have h9 := many_t (p := fun x => s.2 14 x = a1) (k := x3) (by omega) (by assumption); omega) | (have h9 := many_f (p := fun x => s.2 14 x = a1) (k := x3) (by omega) (by assumption); omega) | (have h9 : many (fun x => s.2 14 x = a1) (0 : Int).toNat = 0 := rfl; omega) | grind [upI])
theorem vX3_manyOf_2 (s : MS) (a1 : Int) (hp : tOK (s.2 6)) (x1 : Int) (x2 : Int) (x3 : Int) (hI : x1 = a1 ∧ (0 ≤ x3 ∧ x3 ≤ s.2 6 2) ∧ x2 = many (fun x => s.2 14 x = a1) x3.toNat) (c_1 : ¬ (s.2 6 2) ≤ x3) : (0 ≤ x3 ∧ x3 < 10000) := by
  have hN := tOK_N hp
  (try have hb := many_b (fun x => s.2 14 x = a1) x3.toNat)
  (try rw [hI.1] at *)
  (try unfold lex3)
  (try simp only [bI_0, bI_n, Classical.not_not] at *)
  (try simp (disch := omega) only [i32_id] at *)
  first | done | omega | ((repeat' (with_reducible apply And.intro)) <;> first | assumption | rfl | omega | (rw [hI.2.2, show x3 = s.2 6 2 by omega]) | (have h9 := many_t (p := fun x => s.2 14 x = a1) (k := x3) (by omega) (by assumption); omega) | (have h9 := many_f (p := fun x => s.2 14 x = a1) (k := x3) (by omega) (by assumption); omega) | (have h9 : many (fun x => s.2 14 x = a1) (0 : Int).toNat = 0 := rfl; omega) | grind [upI])
theorem vX3_manyOf_3 (s : MS) (a1 : Int) (hp : tOK (s.2 6)) (x1 : Int) (x2 : Int) (x3 : Int) (hI : x1 = a1 ∧ (0 ≤ x3 ∧ x3 ≤ s.2 6 2) ∧ x2 = many (fun x => s.2 14 x = a1) x3.toNat) (c_1 : ¬ (s.2 6 2) ≤ x3) (o_2 : (0 ≤ x3 ∧ x3 < 10000)) (c_3 : ¬ (s.2 14 x3) = x1) : x1 = a1 ∧ (0 ≤ (i32 (x3 + 1)) ∧ (i32 (x3 + 1)) ≤ s.2 6 2) ∧ (i32 (x2 + 0)) = many (fun x => s.2 14 x = a1) (i32 (x3 + 1)).toNat := by
  have hN := tOK_N hp
  (try have hb := many_b (fun x => s.2 14 x = a1) x3.toNat)
  (try rw [hI.1] at *)
  (try unfold lex3)
  (try simp only [bI_0, bI_n, Classical.not_not] at *)
  (try simp (disch := omega) only [i32_id] at *)
  first | done | omega | ((repeat' (with_reducible apply And.intro)) <;> first | assumption | rfl | omega | (rw [hI.2.2, show x3 = s.2 6 2 by omega]) | (have h9 := many_t (p := fun x => s.2 14 x = a1) (k := x3) (by omega) (by assumption); omega) | (have h9 := many_f (p := fun x => s.2 14 x = a1) (k := x3) (by omega) (by assumption); omega) | (have h9 : many (fun x => s.2 14 x = a1) (0 : Int).toNat = 0 := rfl; omega) | grind [upI])
theorem vX3_manyOf_4 (s : MS) (a1 : Int) (hp : tOK (s.2 6)) (x1 : Int) (x2 : Int) (x3 : Int) (hI : x1 = a1 ∧ (0 ≤ x3 ∧ x3 ≤ s.2 6 2) ∧ x2 = many (fun x => s.2 14 x = a1) x3.toNat) (c_1 : ¬ (s.2 6 2) ≤ x3) (o_2 : (0 ≤ x3 ∧ x3 < 10000)) (c_3 : ¬ (s.2 14 x3) = x1) : lex3 0 0 ((s.2 6 2 - (i32 (x3 + 1))).toNat) 0 0 ((s.2 6 2 - x3).toNat) := by
  have hN := tOK_N hp
  (try have hb := many_b (fun x => s.2 14 x = a1) x3.toNat)
  (try rw [hI.1] at *)
  (try unfold lex3)
  (try simp only [bI_0, bI_n, Classical.not_not] at *)
  (try simp (disch := omega) only [i32_id] at *)
  first | done | omega | ((repeat' (with_reducible apply And.intro)) <;> first | assumption | rfl | omega | (rw [hI.2.2, show x3 = s.2 6 2 by omega]) | (have h9 := many_t (p := fun x => s.2 14 x = a1) (k := x3) (by omega) (by assumption); omega) | (have h9 := many_f (p := fun x => s.2 14 x = a1) (k := x3) (by omega) (by assumption); omega) | (have h9 : many (fun x => s.2 14 x = a1) (0 : Int).toNat = 0 := rfl; omega) | grind [upI])
theorem vX3_manyOf_5 (s : MS) (a1 : Int) (hp : tOK (s.2 6)) (x1 : Int) (x2 : Int) (x3 : Int) (hI : x1 = a1 ∧ (0 ≤ x3 ∧ x3 ≤ s.2 6 2) ∧ x2 = many (fun x => s.2 14 x = a1) x3.toNat) (c_1 : ¬ (s.2 6 2) ≤ x3) (o_2 : (0 ≤ x3 ∧ x3 < 10000)) (c_3 : (s.2 14 x3) = x1) : x1 = a1 ∧ (0 ≤ (i32 (x3 + 1)) ∧ (i32 (x3 + 1)) ≤ s.2 6 2) ∧ (i32 (x2 + 1)) = many (fun x => s.2 14 x = a1) (i32 (x3 + 1)).toNat := by
  have hN := tOK_N hp
  (try have hb := many_b (fun x => s.2 14 x = a1) x3.toNat)
  (try rw [hI.1] at *)
  (try unfold lex3)
  (try simp only [bI_0, bI_n, Classical.not_not] at *)
  (try simp (disch := omega) only [i32_id] at *)
  first | done | omega | ((repeat' (with_reducible apply And.intro)) <;> first | assumption | rfl | omega | (rw [hI.2.2, show x3 = s.2 6 2 by omega]) | (have h9 := many_t (p := fun x => s.2 14 x = a1) (k := x3) (by omega) (by assumption); omega) | (have h9 := many_f (p := fun x => s.2 14 x = a1) (k := x3) (by omega) (by assumption); omega) | (have h9 : many (fun x => s.2 14 x = a1) (0 : Int).toNat = 0 := rfl; omega) | grind [upI])
theorem vX3_manyOf_6 (s : MS) (a1 : Int) (hp : tOK (s.2 6)) (x1 : Int) (x2 : Int) (x3 : Int) (hI : x1 = a1 ∧ (0 ≤ x3 ∧ x3 ≤ s.2 6 2) ∧ x2 = many (fun x => s.2 14 x = a1) x3.toNat) (c_1 : ¬ (s.2 6 2) ≤ x3) (o_2 : (0 ≤ x3 ∧ x3 < 10000)) (c_3 : (s.2 14 x3) = x1) : lex3 0 0 ((s.2 6 2 - (i32 (x3 + 1))).toNat) 0 0 ((s.2 6 2 - x3).toNat) := by
  have hN := tOK_N hp
  (try have hb := many_b (fun x => s.2 14 x = a1) x3.toNat)
  (try rw [hI.1] at *)
  (try unfold lex3)
  (try simp only [bI_0, bI_n, Classical.not_not] at *)
  (try simp (disch := omega) only [i32_id] at *)
  first | done | omega | ((repeat' (with_reducible apply And.intro)) <;> first | assumption | rfl | omega | (rw [hI.2.2, show x3 = s.2 6 2 by omega]) | (have h9 := many_t (p := fun x => s.2 14 x = a1) (k := x3) (by omega) (by assumption); omega) | (have h9 := many_f (p := fun x => s.2 14 x = a1) (k := x3) (by omega) (by assumption); omega) | (have h9 : many (fun x => s.2 14 x = a1) (0 : Int).toNat = 0 := rfl; omega) | grind [upI])
theorem vX3_manyOf_7 (s : MS) (a1 : Int) (hp : tOK (s.2 6)) : a1 = a1 ∧ (0 ≤ (0 : Int) ∧ (0 : Int) ≤ s.2 6 2) ∧ (0 : Int) = many (fun x => s.2 14 x = a1) (0 : Int).toNat := by
  have hN := tOK_N hp
  (try have hb := many_b (fun x => s.2 14 x = a1) x3.toNat)
  (try rw [hI.1] at *)
  (try unfold lex3)
  (try simp only [bI_0, bI_n, Classical.not_not] at *)
  (try simp (disch := omega) only [i32_id] at *)
  first | done | omega | ((repeat' (with_reducible apply And.intro)) <;> first | assumption | rfl | omega | (rw [hI.2.2, show x3 = s.2 6 2 by omega]) | (have h9 := many_t (p := fun x => s.2 14 x = a1) (k := x3) (by omega) (by assumption); omega) | (have h9 := many_f (p := fun x => s.2 14 x = a1) (k := x3) (by omega) (by assumption); omega) | (have h9 : many (fun x => s.2 14 x = a1) (0 : Int).toNat = 0 := rfl; omega) | grind [upI])
theorem allX3_manyOf (b : AH) (s : MS) (a1 : Int) (hp : tOK (s.2 6)) : ∀ m1 m2 m3 : Nat, (∀ (x1 : Int) (x2 : Int) (x3 : Int), m1 = 0 → m2 = 0 → m3 = ((s.2 6 2 - x3).toNat) → (x1 = a1 ∧ (0 ≤ x3 ∧ x3 ≤ s.2 6 2) ∧ x2 = many (fun x => s.2 14 x = a1) x3.toNat) → HX3_manyOf_4 (QX3_manyOf s a1) b s x1 x2 x3) := by
  refine lex3_ind ?_
  intro m1 m2 m3 ih
  rintro x1 x2 x3 rfl rfl rfl hI
  refine bX3_manyOf_4 b s x1 x2 x3 ?_
  refine ⟨fun c_1 => ?_, fun c_1 => ?_⟩
  · exact ⟨(rI_c (vX3_manyOf_1 s a1 hp x1 x2 x3 hI c_1)), rfl⟩
  · have o_2 : (0 ≤ x3 ∧ x3 < 10000) := (vX3_manyOf_2 s a1 hp x1 x2 x3 hI c_1)
    refine ⟨o_2, ?_⟩
    refine ⟨fun c_3 => ?_, fun c_3 => ?_⟩
    · exact (ih _ _ _ (vX3_manyOf_4 s a1 hp x1 x2 x3 hI c_1 o_2 c_3)) x1 (i32 (x2 + 0)) (i32 (x3 + 1)) rfl rfl rfl (vX3_manyOf_3 s a1 hp x1 x2 x3 hI c_1 o_2 c_3)
    · exact (ih _ _ _ (vX3_manyOf_6 s a1 hp x1 x2 x3 hI c_1 o_2 c_3)) x1 (i32 (x2 + 1)) (i32 (x3 + 1)) rfl rfl rfl (vX3_manyOf_5 s a1 hp x1 x2 x3 hI c_1 o_2 c_3)
theorem ctX3_manyOf (b : AH) (s : MS) (a1 : Int) (hp : tOK (s.2 6)) : MC mX3_manyOf 1 b s [vI a1] (QX3_manyOf s a1) := by
  refine MC.of (by decide) rfl (Nat.le_of_ble_eq_true rfl) ?_
  refine bX3_manyOf_0 b s a1 ?_
  exact (allX3_manyOf b s a1 hp _ _ _) a1 0 0 rfl rfl rfl (vX3_manyOf_7 s a1 hp)
def HX3_rounds_0 (Q : Option AV → MS → Prop) (b : AH) (s : MS) (x1 : Int) (f11 : Int → Int) (f12 : Int → Int) (f13 : Int → Int) (f14 : Int → Int) (f15 : Int → Int) (f16 : Int → Int) (f17 : Int → Int) (f18 : Int → Int) (f19 : Int → Int) (k0 : Int) (k25 : Int) (k33 : Int) (k34 : Int) : Prop := MW mX3_rounds 9 Q b 0 [(0, vR 351), (1, vI x1)] [] (sS (sS (sS (sS (sA (sA (sA (sA (sA (sA (sA (sA (sA s 11 f11) 12 f12) 13 f13) 14 f14) 15 f15) 16 f16) 17 f17) 18 f18) 19 f19) 0 k0) 25 k25) 33 k33) 34 k34)
def HX3_rounds_71 (Q : Option AV → MS → Prop) (b : AH) (s : MS) (x2 : Int) (x3 : Int) (f11 : Int → Int) (f12 : Int → Int) (f13 : Int → Int) (f14 : Int → Int) (f15 : Int → Int) (f16 : Int → Int) (f17 : Int → Int) (f18 : Int → Int) (f19 : Int → Int) (k0 : Int) (k25 : Int) (k33 : Int) (k34 : Int) : Prop := MW mX3_rounds 9 Q b 71 [(0, vR 351), (2, vI x2), (3, vI x3)] [] (sS (sS (sS (sS (sA (sA (sA (sA (sA (sA (sA (sA (sA s 11 f11) 12 f12) 13 f13) 14 f14) 15 f15) 16 f16) 17 f17) 18 f18) 19 f19) 0 k0) 25 k25) 33 k33) 34 k34)
theorem bX3_rounds_0 {Q : Option AV → MS → Prop} (b : AH) (s : MS) (x1 : Int) (f11 : Int → Int) (f12 : Int → Int) (f13 : Int → Int) (f14 : Int → Int) (f15 : Int → Int) (f16 : Int → Int) (f17 : Int → Int) (f18 : Int → Int) (f19 : Int → Int) (k0 : Int) (k25 : Int) (k33 : Int) (k34 : Int) (K : ((bI (0 < (s.2 5) 0)) = 0 → Q (some (vI (-2))) (sS (sS (sS (sS (sA (sA (sA (sA (sA (sA (sA (sA (sA s 11 f11) 12 f12) 13 f13) 14 f14) 15 f15) 16 f16) 17 f17) 18 f18) 19 f19) 0 0) 25 k25) 33 k33) 34 k34)) ∧ (¬ (bI (0 < (s.2 5) 0)) = 0 → (¬ (bI ((0 : Int) ≤ x1 ∧ x1 ≤ (3 : Int))) = 0 → (tOK (s.2 6) ∧ aOK (s.2 6) (s.2 7)) ∧ ((∀ (f_6 : Int → Int) (f_7 : Int → Int) (f_8 : Int → Int) (f_9 : Int → Int) (f_10 : Int → Int) (f_11 : Int → Int) (f_12 : Int → Int) (k_13 : Int), (GO (s.2 6) (s.2 7) f_8 f_9 f_10 f_11) → (¬ x1 = 0 → (x1 < 2 → HX3_rounds_71 Q b s 0 0 f_6 f_7 f_8 f_9 f_10 f_11 f_12 f18 f19 0 k_13 k33 k34) ∧ (¬ x1 < 2 → (¬ x1 = 2 → (tOK (s.2 6)) ∧ (Q (some (vI (lgst (fun x => f_10 x = x) f_11 ((s.2 6) 2).toNat))) (sS (sS (sS (sS (sA (sA (sA (sA (sA (sA (sA (sA (sA s 11 f_6) 12 f_7) 13 f_8) 14 f_9) 15 f_10) 16 f_11) 17 f_12) 18 f18) 19 f19) 0 0) 25 k_13) 33 k33) 34 k34))) ∧ (x1 = 2 → (tOK (s.2 6)) ∧ ((0 ≤ (lgst (fun x => f_10 x = x) f_11 ((s.2 6) 2).toNat) ∧ (lgst (fun x => f_10 x = x) f_11 ((s.2 6) 2).toNat) < 10000) ∧ (Q (some (vI (f_11 (lgst (fun x => f_10 x = x) f_11 ((s.2 6) 2).toNat)))) (sS (sS (sS (sS (sA (sA (sA (sA (sA (sA (sA (sA (sA s 11 f_6) 12 f_7) 13 f_8) 14 f_9) 15 f_10) 16 f_11) 17 f_12) 18 f18) 19 f19) 0 0) 25 k_13) 33 k33) 34 k34)))))) ∧ (x1 = 0 → (tOK (s.2 6)) ∧ (Q (some (vI (many (fun x => f_10 x = x) ((s.2 6) 2).toNat))) (sS (sS (sS (sS (sA (sA (sA (sA (sA (sA (sA (sA (sA s 11 f_6) 12 f_7) 13 f_8) 14 f_9) 15 f_10) 16 f_11) 17 f_12) 18 f18) 19 f19) 0 0) 25 k_13) 33 k33) 34 k34)))))) ∧ ((bI ((0 : Int) ≤ x1 ∧ x1 ≤ (3 : Int))) = 0 → Q (some (vI (-2))) (sS (sS (sS (sS (sA (sA (sA (sA (sA (sA (sA (sA (sA s 11 f11) 12 f12) 13 f13) 14 f14) 15 f15) 16 f16) 17 f17) 18 f18) 19 f19) 0 0) 25 k25) 33 k33) 34 k34)))) : HX3_rounds_0 Q b s x1 f11 f12 f13 f14 f15 f16 f17 f18 f19 k0 k25 k33 k34 := by
  refine JW.aload_n dX3_rounds_0 rfl ?_
  refine JW.iconst dX3_rounds_1 rfl ?_
  refine JW.mputI dX3_rounds_2 (pX3_77 _) rfl ?_
  refine JW.steq (s2 := sS (sS (sS (sS (sA (sA (sA (sA (sA (sA (sA (sA (sA s 11 f11) 12 f12) 13 f13) 14 f14) 15 f15) 16 f16) 17 f17) 18 f18) 19 f19) 0 0) 25 k25) 33 k33) 34 k34) (by simp only [sA_A, sS_S, sA_S, sA_lt, sS_lt, Nat.reduceLT, id_eq] <;> rfl) ?_
  refine JW.aload_n dX3_rounds_5 rfl ?_
  refine JW.mcall (As := []) dX3_rounds_6 vX3_isTable rfl q1798 (ctX3_isTable b (sS (sS (sS (sS (sA (sA (sA (sA (sA (sA (sA (sA (sA s 11 f11) 12 f12) 13 f13) 14 f14) 15 f15) 16 f16) 17 f17) 18 f18) 19 f19) 0 0) 25 k25) 33 k33) 34 k34)) (Nat.le_of_ble_eq_true rfl) rfl (Nat.le_of_ble_eq_true rfl) ?_
  rintro _ _ ⟨rfl, eq_1⟩
  refine JW.steq (s2 := sS (sS (sS (sS (sA (sA (sA (sA (sA (sA (sA (sA (sA s 11 f11) 12 f12) 13 f13) 14 f14) 15 f15) 16 f16) 17 f17) 18 f18) 19 f19) 0 0) 25 k25) 33 k33) 34 k34) eq_1 ?_
  refine JW.if_eq (tgt := 24) dX3_rounds_9 rfl (fun c_2 => ?_) (fun c_2 => ?_)
  · have K := K.1 c_2
    refine JW.bipush dX3_rounds_24 rfl ?_
    exact JW.ireturn dX3_rounds_26 rfl rfl ⟨_, rfl, K⟩
  · have K := K.2 c_2
    refine JW.iload_n dX3_rounds_12 rfl ?_
    refine JW.i2l dX3_rounds_13 ?_
    refine JW.lconst (x := 0) dX3_rounds_14 rfl ?_
    refine JW.ldc2 (x := 3) dX3_rounds_15 q1631 rfl ?_
    refine JW.mcallS (As := [vL x1, vL 0, vL 3]) dX3_rounds_18 vX3_in q1632 (ctX3_in b (sS (sS (sS (sS (sA (sA (sA (sA (sA (sA (sA (sA (sA s 11 f11) 12 f12) 13 f13) 14 f14) 15 f15) 16 f16) 17 f17) 18 f18) 19 f19) 0 0) 25 k25) 33 k33) 34 k34) x1 0 3) (Nat.le_of_ble_eq_true rfl) rfl (Nat.le_of_ble_eq_true rfl) ?_
    rintro _ _ ⟨rfl, eq_3⟩
    refine JW.steq (s2 := sS (sS (sS (sS (sA (sA (sA (sA (sA (sA (sA (sA (sA s 11 f11) 12 f12) 13 f13) 14 f14) 15 f15) 16 f16) 17 f17) 18 f18) 19 f19) 0 0) 25 k25) 33 k33) 34 k34) eq_3 ?_
    refine JW.if_ne (tgt := 27) dX3_rounds_21 rfl (fun c_4 => ?_) (fun c_4 => ?_)
    · have K := K.1 c_4
      refine JW.aload_n dX3_rounds_27 rfl ?_
      obtain ⟨o_5, K⟩ := K
      refine JW.mcall (As := []) dX3_rounds_28 vX3_all rfl q1863 (ctX3_all b (sS (sS (sS (sS (sA (sA (sA (sA (sA (sA (sA (sA (sA s 11 f11) 12 f12) 13 f13) 14 f14) 15 f15) 16 f16) 17 f17) 18 f18) 19 f19) 0 0) 25 k25) 33 k33) 34 k34) o_5) (Nat.le_of_ble_eq_true rfl) rfl (Nat.le_of_ble_eq_true rfl) ?_
      rintro _ _ ⟨f_6, f_7, f_8, f_9, f_10, f_11, f_12, k_13, rfl, rfl, q_14⟩
      refine JW.steq (s2 := sS (sS (sS (sS (sA (sA (sA (sA (sA (sA (sA (sA (sA s 11 f_6) 12 f_7) 13 f_8) 14 f_9) 15 f_10) 16 f_11) 17 f_12) 18 f18) 19 f19) 0 0) 25 k_13) 33 k33) 34 k34) (by simp only [sA_A, sS_S, sA_S, sA_lt, sS_lt, Nat.reduceLT, id_eq] <;> rfl) ?_
      replace K := K f_6 f_7 f_8 f_9 f_10 f_11 f_12 k_13 q_14
      refine JW.iload_n dX3_rounds_31 rfl ?_
      refine JW.if_ne (tgt := 40) dX3_rounds_32 rfl (fun c_15 => ?_) (fun c_15 => ?_)
      · have K := K.1 c_15
        refine JW.iload_n dX3_rounds_40 rfl ?_
        refine JW.iconst dX3_rounds_41 rfl ?_
        refine JW.icmp_lt (tgt := 67) dX3_rounds_42 rfl (fun c_16 => ?_) (fun c_16 => ?_)
        · have K := K.1 c_16
          refine JW.iconst dX3_rounds_67 rfl ?_
          refine JW.istore_n (ls' := [(0, vR 351), (1, vI x1), (2, vI 0)]) dX3_rounds_68 (Nat.le_of_ble_eq_true rfl) rfl ?_
          refine JW.iconst dX3_rounds_69 rfl ?_
          refine JW.istore_n (ls' := [(0, vR 351), (1, vI x1), (2, vI 0), (3, vI 0)]) dX3_rounds_70 (Nat.le_of_ble_eq_true rfl) rfl ?_
          exact JW.pick [0, 2, 3] rfl K
        · have K := K.2 c_16
          refine JW.iload_n dX3_rounds_45 rfl ?_
          refine JW.iconst dX3_rounds_46 rfl ?_
          refine JW.icmp_ne (tgt := 62) dX3_rounds_47 rfl (fun c_17 => ?_) (fun c_17 => ?_)
          · have K := K.1 c_17
            refine JW.aload_n dX3_rounds_62 rfl ?_
            obtain ⟨o_18, K⟩ := K
            refine JW.mcall (As := []) dX3_rounds_63 vX3_longest rfl q1903 (ctX3_longest b (sS (sS (sS (sS (sA (sA (sA (sA (sA (sA (sA (sA (sA s 11 f_6) 12 f_7) 13 f_8) 14 f_9) 15 f_10) 16 f_11) 17 f_12) 18 f18) 19 f19) 0 0) 25 k_13) 33 k33) 34 k34) o_18) (Nat.le_of_ble_eq_true rfl) rfl (Nat.le_of_ble_eq_true rfl) ?_
            rintro _ _ ⟨rfl, eq_19⟩
            refine JW.steq (s2 := sS (sS (sS (sS (sA (sA (sA (sA (sA (sA (sA (sA (sA s 11 f_6) 12 f_7) 13 f_8) 14 f_9) 15 f_10) 16 f_11) 17 f_12) 18 f18) 19 f19) 0 0) 25 k_13) 33 k33) 34 k34) eq_19 ?_
            exact JW.ireturn dX3_rounds_66 rfl rfl ⟨_, rfl, K⟩
          · have K := K.2 c_17
            refine JW.aload_n dX3_rounds_50 rfl ?_
            refine JW.mget (v := vR 368) dX3_rounds_51 fX3_65 rfl ?_
            refine JW.aload_n dX3_rounds_54 rfl ?_
            obtain ⟨o_20, K⟩ := K
            refine JW.mcall (As := []) dX3_rounds_55 vX3_longest rfl q1903 (ctX3_longest b (sS (sS (sS (sS (sA (sA (sA (sA (sA (sA (sA (sA (sA s 11 f_6) 12 f_7) 13 f_8) 14 f_9) 15 f_10) 16 f_11) 17 f_12) 18 f18) 19 f19) 0 0) 25 k_13) 33 k33) 34 k34) o_20) (Nat.le_of_ble_eq_true rfl) rfl (Nat.le_of_ble_eq_true rfl) ?_
            rintro _ _ ⟨rfl, eq_21⟩
            refine JW.steq (s2 := sS (sS (sS (sS (sA (sA (sA (sA (sA (sA (sA (sA (sA s 11 f_6) 12 f_7) 13 f_8) 14 f_9) 15 f_10) 16 f_11) 17 f_12) 18 f18) 19 f19) 0 0) 25 k_13) 33 k33) 34 k34) eq_21 ?_
            obtain ⟨o_22, K⟩ := K
            refine JW.mald 16 (x := (f_11 (lgst (fun x => f_10 x = x) f_11 ((s.2 6) 2).toNat))) dX3_rounds_58 (Nat.le_of_ble_eq_true rfl) rfl o_22.1 o_22.2 rfl ?_
            refine JW.goto (tgt := 66) dX3_rounds_59 rfl ?_
            exact JW.ireturn dX3_rounds_66 rfl rfl ⟨_, rfl, K⟩
      · have K := K.2 c_15
        refine JW.aload_n dX3_rounds_35 rfl ?_
        obtain ⟨o_23, K⟩ := K
        refine JW.mcall (As := []) dX3_rounds_36 vX3_manyRounds rfl q1895 (ctX3_manyRounds b (sS (sS (sS (sS (sA (sA (sA (sA (sA (sA (sA (sA (sA s 11 f_6) 12 f_7) 13 f_8) 14 f_9) 15 f_10) 16 f_11) 17 f_12) 18 f18) 19 f19) 0 0) 25 k_13) 33 k33) 34 k34) o_23) (Nat.le_of_ble_eq_true rfl) rfl (Nat.le_of_ble_eq_true rfl) ?_
        rintro _ _ ⟨rfl, eq_24⟩
        refine JW.steq (s2 := sS (sS (sS (sS (sA (sA (sA (sA (sA (sA (sA (sA (sA s 11 f_6) 12 f_7) 13 f_8) 14 f_9) 15 f_10) 16 f_11) 17 f_12) 18 f18) 19 f19) 0 0) 25 k_13) 33 k33) 34 k34) eq_24 ?_
        exact JW.ireturn dX3_rounds_39 rfl rfl ⟨_, rfl, K⟩
    · have K := K.2 c_4
      refine JW.bipush dX3_rounds_24 rfl ?_
      exact JW.ireturn dX3_rounds_26 rfl rfl ⟨_, rfl, K⟩
theorem bX3_rounds_71 {Q : Option AV → MS → Prop} (b : AH) (s : MS) (x2 : Int) (x3 : Int) (f11 : Int → Int) (f12 : Int → Int) (f13 : Int → Int) (f14 : Int → Int) (f15 : Int → Int) (f16 : Int → Int) (f17 : Int → Int) (f18 : Int → Int) (f19 : Int → Int) (k0 : Int) (k25 : Int) (k33 : Int) (k34 : Int) (K : ((s.2 6 2) ≤ x3 → Q (some (vI x2)) (sS (sS (sS (sS (sA (sA (sA (sA (sA (sA (sA (sA (sA s 11 f11) 12 f12) 13 f13) 14 f14) 15 f15) 16 f16) 17 f17) 18 f18) 19 f19) 0 k0) 25 k25) 33 k33) 34 k34)) ∧ (¬ (s.2 6 2) ≤ x3 → (0 ≤ x3 ∧ x3 < 10000) ∧ ((¬ (f13 x3) = x3 → HX3_rounds_71 Q b s (i32 (x2 + 0)) (i32 (x3 + 1)) f11 f12 f13 f14 f15 f16 f17 f18 f19 k0 k25 k33 k34) ∧ ((f13 x3) = x3 → HX3_rounds_71 Q b s (i32 (x2 + 1)) (i32 (x3 + 1)) f11 f12 f13 f14 f15 f16 f17 f18 f19 k0 k25 k33 k34)))) : HX3_rounds_71 Q b s x2 x3 f11 f12 f13 f14 f15 f16 f17 f18 f19 k0 k25 k33 k34 := by
  refine JW.iload_n dX3_rounds_71 rfl ?_
  refine JW.aload_n dX3_rounds_72 rfl ?_
  refine JW.mget (v := vR 358) dX3_rounds_73 fX3_34 rfl ?_
  refine JW.iconst dX3_rounds_76 rfl ?_
  refine JW.mald 6 (x := (s.2 6 2)) dX3_rounds_77 (Nat.le_of_ble_eq_true rfl) rfl (by decide) (by decide) rfl ?_
  refine JW.icmp_ge (tgt := 105) dX3_rounds_78 rfl (fun c_1 => ?_) (fun c_1 => ?_)
  · have K := K.1 c_1
    refine JW.iload_n dX3_rounds_105 rfl ?_
    exact JW.ireturn dX3_rounds_106 rfl rfl ⟨_, rfl, K⟩
  · have K := K.2 c_1
    refine JW.iload_n dX3_rounds_81 rfl ?_
    refine JW.aload_n dX3_rounds_82 rfl ?_
    refine JW.mget (v := vR 365) dX3_rounds_83 fX3_56 rfl ?_
    refine JW.iload_n dX3_rounds_86 rfl ?_
    obtain ⟨o_2, K⟩ := K
    refine JW.mald 13 (x := (f13 x3)) dX3_rounds_87 (Nat.le_of_ble_eq_true rfl) rfl o_2.1 o_2.2 rfl ?_
    refine JW.iload_n dX3_rounds_88 rfl ?_
    refine JW.icmp_ne (tgt := 96) dX3_rounds_89 rfl (fun c_3 => ?_) (fun c_3 => ?_)
    · have K := K.1 c_3
      refine JW.iconst dX3_rounds_96 rfl ?_
      refine JW.iadd dX3_rounds_97 ?_
      refine JW.istore_n (ls' := [(0, vR 351), (2, vI (i32 (x2 + 0))), (3, vI x3)]) dX3_rounds_98 (Nat.le_of_ble_eq_true rfl) rfl ?_
      refine JW.iinc (ls' := [(0, vR 351), (2, vI (i32 (x2 + 0))), (3, vI (i32 (x3 + 1)))]) dX3_rounds_99 (Nat.le_of_ble_eq_true rfl) rfl rfl ?_
      refine JW.goto (tgt := 71) dX3_rounds_102 rfl ?_
      exact JW.pick [0, 2, 3] rfl K
    · have K := K.2 c_3
      refine JW.iconst dX3_rounds_92 rfl ?_
      refine JW.goto (tgt := 97) dX3_rounds_93 rfl ?_
      refine JW.iadd dX3_rounds_97 ?_
      refine JW.istore_n (ls' := [(0, vR 351), (2, vI (i32 (x2 + 1))), (3, vI x3)]) dX3_rounds_98 (Nat.le_of_ble_eq_true rfl) rfl ?_
      refine JW.iinc (ls' := [(0, vR 351), (2, vI (i32 (x2 + 1))), (3, vI (i32 (x3 + 1)))]) dX3_rounds_99 (Nat.le_of_ble_eq_true rfl) rfl rfl ?_
      refine JW.goto (tgt := 71) dX3_rounds_102 rfl ?_
      exact JW.pick [0, 2, 3] rfl K
def QX3_rounds (s : MS) (a1 : Int) : Option AV → MS → Prop := fun v s' => ∃ (f11 : Int → Int) (f12 : Int → Int) (f13 : Int → Int) (f14 : Int → Int) (f15 : Int → Int) (f16 : Int → Int) (f17 : Int → Int) (f18 : Int → Int) (f19 : Int → Int) (k25 : Int) (k33 : Int) (k34 : Int), v = some (vI (rRounds ((s.2 5) 0) (s.2 6) (s.2 7) a1)) ∧ s' = sS (sS (sS (sS (sA (sA (sA (sA (sA (sA (sA (sA (sA s 11 f11) 12 f12) 13 f13) 14 f14) 15 f15) 16 f16) 17 f17) 18 f18) 19 f19) 0 (0)) 25 k25) 33 k33) 34 k34
theorem vX3_rounds_1 (s : MS) (a1 : Int) (hp : tOK (s.2 6) ∧ aOK (s.2 6) (s.2 7) ∧ lOK ((s.2 5) 0) (s.2 6)) (x2 : Int) (x3 : Int) (f11 : Int → Int) (f12 : Int → Int) (f13 : Int → Int) (f14 : Int → Int) (f15 : Int → Int) (f16 : Int → Int) (f17 : Int → Int) (f18 : Int → Int) (f19 : Int → Int) (k0 : Int) (k25 : Int) (k33 : Int) (k34 : Int) (hI : k0 = 0 ∧ GO (s.2 6) (s.2 7) f13 f14 f15 f16 ∧ (0 < s.2 5 0 ∧ a1 = 1) ∧ (0 ≤ x3 ∧ x3 ≤ s.2 6 2) ∧ x2 = many (fun x => nx (s.2 6) (s.2 7) x = x) x3.toNat) (c_1 : (s.2 6 2) ≤ x3) : k0 = (0) := by
  obtain ⟨ht, ha, hl⟩ := hp
  have hN := tOK_N ht
  have hg := nx_rng (s.2 6) (s.2 7)
  (try simp only [bI_0, bI_n, Classical.not_not] at *)
  (try have hq := ‹GO (s.2 6) (s.2 7) _ _ _ _›)
  (try have hq := hI.2.1)
  (try have hx := GO_at hq (x := a1) (by omega) (by omega))
  (try have hN2 : 0 < s.2 6 2 := lOK_N ht hl (by omega))
  (try have hy := GO_at hq (x := x3) (by omega) (by omega))
  (try have hb := many_b (fun x => nx (s.2 6) (s.2 7) x = x) x3.toNat)
  (try unfold lex3)
  (try simp only [bI_0, bI_n, Classical.not_not] at *)
  (try simp (disch := omega) only [i32_id] at *)
  first | done | omega | ((repeat' (with_reducible apply And.intro)) <;> first | assumption | rfl | omega | (exact hI.1) | (exact hI.2.1) | (exact hq) | (unfold rRounds; rw [if_neg (by omega)]) | (unfold rRounds; rw [if_pos (by omega), if_pos (by omega)]; exact many_c _ (fun i h0 h1 => by rw [(hq i h0 (by omega)).2.1])) | (have hc := GO_lg hq (by omega); rw [hc.1]; omega) | (have hc := GO_lg hq (by omega); rw [hc.1, hc.2.2]; unfold rRounds; rw [if_pos (by omega), if_neg (by omega), if_pos (by omega)]) | (have hc := GO_lg hq (by omega); rw [hc.1]; unfold rRounds; rw [if_pos (by omega), if_neg (by omega), if_neg (by omega), if_pos (by omega)]) | (unfold rRounds; rw [if_pos (by omega), if_neg (by omega), if_neg (by omega), if_neg (by omega), hI.2.2.2.2, show x3 = s.2 6 2 by omega]) | (have h9 := many_t (p := fun x => nx (s.2 6) (s.2 7) x = x) (k := x3) (by omega) (by rw [← hy.1.1.1]; assumption); omega) | (have h9 := many_f (p := fun x => nx (s.2 6) (s.2 7) x = x) (k := x3) (by omega) (by rw [← hy.1.1.1]; assumption); omega) | (have h9 : many (fun x => nx (s.2 6) (s.2 7) x = x) (0 : Int).toNat = 0 := rfl; omega) | grind [upI])
theorem vX3_rounds_2 (s : MS) (a1 : Int) (hp : tOK (s.2 6) ∧ aOK (s.2 6) (s.2 7) ∧ lOK ((s.2 5) 0) (s.2 6)) (x2 : Int) (x3 : Int) (f11 : Int → Int) (f12 : Int → Int) (f13 : Int → Int) (f14 : Int → Int) (f15 : Int → Int) (f16 : Int → Int) (f17 : Int → Int) (f18 : Int → Int) (f19 : Int → Int) (k0 : Int) (k25 : Int) (k33 : Int) (k34 : Int) (hI : k0 = 0 ∧ GO (s.2 6) (s.2 7) f13 f14 f15 f16 ∧ (0 < s.2 5 0 ∧ a1 = 1) ∧ (0 ≤ x3 ∧ x3 ≤ s.2 6 2) ∧ x2 = many (fun x => nx (s.2 6) (s.2 7) x = x) x3.toNat) (c_1 : (s.2 6 2) ≤ x3) : x2 = (rRounds ((s.2 5) 0) (s.2 6) (s.2 7) a1) := by
  obtain ⟨ht, ha, hl⟩ := hp
  have hN := tOK_N ht
  have hg := nx_rng (s.2 6) (s.2 7)
  (try simp only [bI_0, bI_n, Classical.not_not] at *)
  (try have hq := ‹GO (s.2 6) (s.2 7) _ _ _ _›)
  (try have hq := hI.2.1)
  (try have hx := GO_at hq (x := a1) (by omega) (by omega))
  (try have hN2 : 0 < s.2 6 2 := lOK_N ht hl (by omega))
  (try have hy := GO_at hq (x := x3) (by omega) (by omega))
  (try have hb := many_b (fun x => nx (s.2 6) (s.2 7) x = x) x3.toNat)
  (try unfold lex3)
  (try simp only [bI_0, bI_n, Classical.not_not] at *)
  (try simp (disch := omega) only [i32_id] at *)
  first | done | omega | ((repeat' (with_reducible apply And.intro)) <;> first | assumption | rfl | omega | (exact hI.1) | (exact hI.2.1) | (exact hq) | (unfold rRounds; rw [if_neg (by omega)]) | (unfold rRounds; rw [if_pos (by omega), if_pos (by omega)]; exact many_c _ (fun i h0 h1 => by rw [(hq i h0 (by omega)).2.1])) | (have hc := GO_lg hq (by omega); rw [hc.1]; omega) | (have hc := GO_lg hq (by omega); rw [hc.1, hc.2.2]; unfold rRounds; rw [if_pos (by omega), if_neg (by omega), if_pos (by omega)]) | (have hc := GO_lg hq (by omega); rw [hc.1]; unfold rRounds; rw [if_pos (by omega), if_neg (by omega), if_neg (by omega), if_pos (by omega)]) | (unfold rRounds; rw [if_pos (by omega), if_neg (by omega), if_neg (by omega), if_neg (by omega), hI.2.2.2.2, show x3 = s.2 6 2 by omega]) | (have h9 := many_t (p := fun x => nx (s.2 6) (s.2 7) x = x) (k := x3) (by omega) (by rw [← hy.1.1.1]; assumption); omega) | (have h9 := many_f (p := fun x => nx (s.2 6) (s.2 7) x = x) (k := x3) (by omega) (by rw [← hy.1.1.1]; assumption); omega) | (have h9 : many (fun x => nx (s.2 6) (s.2 7) x = x) (0 : Int).toNat = 0 := rfl; omega) | grind [upI])
theorem vX3_rounds_3 (s : MS) (a1 : Int) (hp : tOK (s.2 6) ∧ aOK (s.2 6) (s.2 7) ∧ lOK ((s.2 5) 0) (s.2 6)) (x2 : Int) (x3 : Int) (f11 : Int → Int) (f12 : Int → Int) (f13 : Int → Int) (f14 : Int → Int) (f15 : Int → Int) (f16 : Int → Int) (f17 : Int → Int) (f18 : Int → Int) (f19 : Int → Int) (k0 : Int) (k25 : Int) (k33 : Int) (k34 : Int) (hI : k0 = 0 ∧ GO (s.2 6) (s.2 7) f13 f14 f15 f16 ∧ (0 < s.2 5 0 ∧ a1 = 1) ∧ (0 ≤ x3 ∧ x3 ≤ s.2 6 2) ∧ x2 = many (fun x => nx (s.2 6) (s.2 7) x = x) x3.toNat) (c_1 : ¬ (s.2 6 2) ≤ x3) : (0 ≤ x3 ∧ x3 < 10000) := by
  obtain ⟨ht, ha, hl⟩ := hp
  have hN := tOK_N ht
  have hg := nx_rng (s.2 6) (s.2 7)
  (try simp only [bI_0, bI_n, Classical.not_not] at *)
  (try have hq := ‹GO (s.2 6) (s.2 7) _ _ _ _›)
  (try have hq := hI.2.1)
  (try have hx := GO_at hq (x := a1) (by omega) (by omega))
  (try have hN2 : 0 < s.2 6 2 := lOK_N ht hl (by omega))
  (try have hy := GO_at hq (x := x3) (by omega) (by omega))
  (try have hb := many_b (fun x => nx (s.2 6) (s.2 7) x = x) x3.toNat)
  (try unfold lex3)
  (try simp only [bI_0, bI_n, Classical.not_not] at *)
  (try simp (disch := omega) only [i32_id] at *)
  first | done | omega | ((repeat' (with_reducible apply And.intro)) <;> first | assumption | rfl | omega | (exact hI.1) | (exact hI.2.1) | (exact hq) | (unfold rRounds; rw [if_neg (by omega)]) | (unfold rRounds; rw [if_pos (by omega), if_pos (by omega)]; exact many_c _ (fun i h0 h1 => by rw [(hq i h0 (by omega)).2.1])) | (have hc := GO_lg hq (by omega); rw [hc.1]; omega) | (have hc := GO_lg hq (by omega); rw [hc.1, hc.2.2]; unfold rRounds; rw [if_pos (by omega), if_neg (by omega), if_pos (by omega)]) | (have hc := GO_lg hq (by omega); rw [hc.1]; unfold rRounds; rw [if_pos (by omega), if_neg (by omega), if_neg (by omega), if_pos (by omega)]) | (unfold rRounds; rw [if_pos (by omega), if_neg (by omega), if_neg (by omega), if_neg (by omega), hI.2.2.2.2, show x3 = s.2 6 2 by omega]) | (have h9 := many_t (p := fun x => nx (s.2 6) (s.2 7) x = x) (k := x3) (by omega) (by rw [← hy.1.1.1]; assumption); omega) | (have h9 := many_f (p := fun x => nx (s.2 6) (s.2 7) x = x) (k := x3) (by omega) (by rw [← hy.1.1.1]; assumption); omega) | (have h9 : many (fun x => nx (s.2 6) (s.2 7) x = x) (0 : Int).toNat = 0 := rfl; omega) | grind [upI])
theorem vX3_rounds_4 (s : MS) (a1 : Int) (hp : tOK (s.2 6) ∧ aOK (s.2 6) (s.2 7) ∧ lOK ((s.2 5) 0) (s.2 6)) (x2 : Int) (x3 : Int) (f11 : Int → Int) (f12 : Int → Int) (f13 : Int → Int) (f14 : Int → Int) (f15 : Int → Int) (f16 : Int → Int) (f17 : Int → Int) (f18 : Int → Int) (f19 : Int → Int) (k0 : Int) (k25 : Int) (k33 : Int) (k34 : Int) (hI : k0 = 0 ∧ GO (s.2 6) (s.2 7) f13 f14 f15 f16 ∧ (0 < s.2 5 0 ∧ a1 = 1) ∧ (0 ≤ x3 ∧ x3 ≤ s.2 6 2) ∧ x2 = many (fun x => nx (s.2 6) (s.2 7) x = x) x3.toNat) (c_1 : ¬ (s.2 6 2) ≤ x3) (o_2 : (0 ≤ x3 ∧ x3 < 10000)) (c_3 : ¬ (f13 x3) = x3) : k0 = 0 ∧ GO (s.2 6) (s.2 7) f13 f14 f15 f16 ∧ (0 < s.2 5 0 ∧ a1 = 1) ∧ (0 ≤ (i32 (x3 + 1)) ∧ (i32 (x3 + 1)) ≤ s.2 6 2) ∧ (i32 (x2 + 0)) = many (fun x => nx (s.2 6) (s.2 7) x = x) (i32 (x3 + 1)).toNat := by
  obtain ⟨ht, ha, hl⟩ := hp
  have hN := tOK_N ht
  have hg := nx_rng (s.2 6) (s.2 7)
  (try simp only [bI_0, bI_n, Classical.not_not] at *)
  (try have hq := ‹GO (s.2 6) (s.2 7) _ _ _ _›)
  (try have hq := hI.2.1)
  (try have hx := GO_at hq (x := a1) (by omega) (by omega))
  (try have hN2 : 0 < s.2 6 2 := lOK_N ht hl (by omega))
  (try have hy := GO_at hq (x := x3) (by omega) (by omega))
  (try have hb := many_b (fun x => nx (s.2 6) (s.2 7) x = x) x3.toNat)
  (try unfold lex3)
  (try simp only [bI_0, bI_n, Classical.not_not] at *)
  (try simp (disch := omega) only [i32_id] at *)
  first | done | omega | ((repeat' (with_reducible apply And.intro)) <;> first | assumption | rfl | omega | (exact hI.1) | (exact hI.2.1) | (exact hq) | (unfold rRounds; rw [if_neg (by omega)]) | (unfold rRounds; rw [if_pos (by omega), if_pos (by omega)]; exact many_c _ (fun i h0 h1 => by rw [(hq i h0 (by omega)).2.1])) | (have hc := GO_lg hq (by omega); rw [hc.1]; omega) | (have hc := GO_lg hq (by omega); rw [hc.1, hc.2.2]; unfold rRounds; rw [if_pos (by omega), if_neg (by omega), if_pos (by omega)]) | (have hc := GO_lg hq (by omega); rw [hc.1]; unfold rRounds; rw [if_pos (by omega), if_neg (by omega), if_neg (by omega), if_pos (by omega)]) | (unfold rRounds; rw [if_pos (by omega), if_neg (by omega), if_neg (by omega), if_neg (by omega), hI.2.2.2.2, show x3 = s.2 6 2 by omega]) | (have h9 := many_t (p := fun x => nx (s.2 6) (s.2 7) x = x) (k := x3) (by omega) (by rw [← hy.1.1.1]; assumption); omega) | (have h9 := many_f (p := fun x => nx (s.2 6) (s.2 7) x = x) (k := x3) (by omega) (by rw [← hy.1.1.1]; assumption); omega) | (have h9 : many (fun x => nx (s.2 6) (s.2 7) x = x) (0 : Int).toNat = 0 := rfl; omega) | grind [upI])
theorem vX3_rounds_5 (s : MS) (a1 : Int) (hp : tOK (s.2 6) ∧ aOK (s.2 6) (s.2 7) ∧ lOK ((s.2 5) 0) (s.2 6)) (x2 : Int) (x3 : Int) (f11 : Int → Int) (f12 : Int → Int) (f13 : Int → Int) (f14 : Int → Int) (f15 : Int → Int) (f16 : Int → Int) (f17 : Int → Int) (f18 : Int → Int) (f19 : Int → Int) (k0 : Int) (k25 : Int) (k33 : Int) (k34 : Int) (hI : k0 = 0 ∧ GO (s.2 6) (s.2 7) f13 f14 f15 f16 ∧ (0 < s.2 5 0 ∧ a1 = 1) ∧ (0 ≤ x3 ∧ x3 ≤ s.2 6 2) ∧ x2 = many (fun x => nx (s.2 6) (s.2 7) x = x) x3.toNat) (c_1 : ¬ (s.2 6 2) ≤ x3) (o_2 : (0 ≤ x3 ∧ x3 < 10000)) (c_3 : ¬ (f13 x3) = x3) : lex3 0 0 ((s.2 6 2 - (i32 (x3 + 1))).toNat) 0 0 ((s.2 6 2 - x3).toNat) := by
  obtain ⟨ht, ha, hl⟩ := hp
  have hN := tOK_N ht
  have hg := nx_rng (s.2 6) (s.2 7)
  (try simp only [bI_0, bI_n, Classical.not_not] at *)
  (try have hq := ‹GO (s.2 6) (s.2 7) _ _ _ _›)
  (try have hq := hI.2.1)
  (try have hx := GO_at hq (x := a1) (by omega) (by omega))
  (try have hN2 : 0 < s.2 6 2 := lOK_N ht hl (by omega))
  (try have hy := GO_at hq (x := x3) (by omega) (by omega))
  (try have hb := many_b (fun x => nx (s.2 6) (s.2 7) x = x) x3.toNat)
  (try unfold lex3)
  (try simp only [bI_0, bI_n, Classical.not_not] at *)
  (try simp (disch := omega) only [i32_id] at *)
  first | done | omega | ((repeat' (with_reducible apply And.intro)) <;> first | assumption | rfl | omega | (exact hI.1) | (exact hI.2.1) | (exact hq) | (unfold rRounds; rw [if_neg (by omega)]) | (unfold rRounds; rw [if_pos (by omega), if_pos (by omega)]; exact many_c _ (fun i h0 h1 => by rw [(hq i h0 (by omega)).2.1])) | (have hc := GO_lg hq (by omega); rw [hc.1]; omega) | (have hc := GO_lg hq (by omega); rw [hc.1, hc.2.2]; unfold rRounds; rw [if_pos (by omega), if_neg (by omega), if_pos (by omega)]) | (have hc := GO_lg hq (by omega); rw [hc.1]; unfold rRounds; rw [if_pos (by omega), if_neg (by omega), if_neg (by omega), if_pos (by omega)]) | (unfold rRounds; rw [if_pos (by omega), if_neg (by omega), if_neg (by omega), if_neg (by omega), hI.2.2.2.2, show x3 = s.2 6 2 by omega]) | (have h9 := many_t (p := fun x => nx (s.2 6) (s.2 7) x = x) (k := x3) (by omega) (by rw [← hy.1.1.1]; assumption); omega) | (have h9 := many_f (p := fun x => nx (s.2 6) (s.2 7) x = x) (k := x3) (by omega) (by rw [← hy.1.1.1]; assumption); omega) | (have h9 : many (fun x => nx (s.2 6) (s.2 7) x = x) (0 : Int).toNat = 0 := rfl; omega) | grind [upI])
theorem vX3_rounds_6 (s : MS) (a1 : Int) (hp : tOK (s.2 6) ∧ aOK (s.2 6) (s.2 7) ∧ lOK ((s.2 5) 0) (s.2 6)) (x2 : Int) (x3 : Int) (f11 : Int → Int) (f12 : Int → Int) (f13 : Int → Int) (f14 : Int → Int) (f15 : Int → Int) (f16 : Int → Int) (f17 : Int → Int) (f18 : Int → Int) (f19 : Int → Int) (k0 : Int) (k25 : Int) (k33 : Int) (k34 : Int) (hI : k0 = 0 ∧ GO (s.2 6) (s.2 7) f13 f14 f15 f16 ∧ (0 < s.2 5 0 ∧ a1 = 1) ∧ (0 ≤ x3 ∧ x3 ≤ s.2 6 2) ∧ x2 = many (fun x => nx (s.2 6) (s.2 7) x = x) x3.toNat) (c_1 : ¬ (s.2 6 2) ≤ x3) (o_2 : (0 ≤ x3 ∧ x3 < 10000)) (c_3 : (f13 x3) = x3) : k0 = 0 ∧ GO (s.2 6) (s.2 7) f13 f14 f15 f16 ∧ (0 < s.2 5 0 ∧ a1 = 1) ∧ (0 ≤ (i32 (x3 + 1)) ∧ (i32 (x3 + 1)) ≤ s.2 6 2) ∧ (i32 (x2 + 1)) = many (fun x => nx (s.2 6) (s.2 7) x = x) (i32 (x3 + 1)).toNat := by
  obtain ⟨ht, ha, hl⟩ := hp
  have hN := tOK_N ht
  have hg := nx_rng (s.2 6) (s.2 7)
  (try simp only [bI_0, bI_n, Classical.not_not] at *)
  (try have hq := ‹GO (s.2 6) (s.2 7) _ _ _ _›)
  (try have hq := hI.2.1)
  (try have hx := GO_at hq (x := a1) (by omega) (by omega))
  (try have hN2 : 0 < s.2 6 2 := lOK_N ht hl (by omega))
  (try have hy := GO_at hq (x := x3) (by omega) (by omega))
  (try have hb := many_b (fun x => nx (s.2 6) (s.2 7) x = x) x3.toNat)
  (try unfold lex3)
  (try simp only [bI_0, bI_n, Classical.not_not] at *)
  (try simp (disch := omega) only [i32_id] at *)
  first | done | omega | ((repeat' (with_reducible apply And.intro)) <;> first | assumption | rfl | omega | (exact hI.1) | (exact hI.2.1) | (exact hq) | (unfold rRounds; rw [if_neg (by omega)]) | (unfold rRounds; rw [if_pos (by omega), if_pos (by omega)]; exact many_c _ (fun i h0 h1 => by rw [(hq i h0 (by omega)).2.1])) | (have hc := GO_lg hq (by omega); rw [hc.1]; omega) | (have hc := GO_lg hq (by omega); rw [hc.1, hc.2.2]; unfold rRounds; rw [if_pos (by omega), if_neg (by omega), if_pos (by omega)]) | (have hc := GO_lg hq (by omega); rw [hc.1]; unfold rRounds; rw [if_pos (by omega), if_neg (by omega), if_neg (by omega), if_pos (by omega)]) | (unfold rRounds; rw [if_pos (by omega), if_neg (by omega), if_neg (by omega), if_neg (by omega), hI.2.2.2.2, show x3 = s.2 6 2 by omega]) | (have h9 := many_t (p := fun x => nx (s.2 6) (s.2 7) x = x) (k := x3) (by omega) (by rw [← hy.1.1.1]; assumption); omega) | (have h9 := many_f (p := fun x => nx (s.2 6) (s.2 7) x = x) (k := x3) (by omega) (by rw [← hy.1.1.1]; assumption); omega) | (have h9 : many (fun x => nx (s.2 6) (s.2 7) x = x) (0 : Int).toNat = 0 := rfl; omega) | grind [upI])
theorem vX3_rounds_7 (s : MS) (a1 : Int) (hp : tOK (s.2 6) ∧ aOK (s.2 6) (s.2 7) ∧ lOK ((s.2 5) 0) (s.2 6)) (x2 : Int) (x3 : Int) (f11 : Int → Int) (f12 : Int → Int) (f13 : Int → Int) (f14 : Int → Int) (f15 : Int → Int) (f16 : Int → Int) (f17 : Int → Int) (f18 : Int → Int) (f19 : Int → Int) (k0 : Int) (k25 : Int) (k33 : Int) (k34 : Int) (hI : k0 = 0 ∧ GO (s.2 6) (s.2 7) f13 f14 f15 f16 ∧ (0 < s.2 5 0 ∧ a1 = 1) ∧ (0 ≤ x3 ∧ x3 ≤ s.2 6 2) ∧ x2 = many (fun x => nx (s.2 6) (s.2 7) x = x) x3.toNat) (c_1 : ¬ (s.2 6 2) ≤ x3) (o_2 : (0 ≤ x3 ∧ x3 < 10000)) (c_3 : (f13 x3) = x3) : lex3 0 0 ((s.2 6 2 - (i32 (x3 + 1))).toNat) 0 0 ((s.2 6 2 - x3).toNat) := by
  obtain ⟨ht, ha, hl⟩ := hp
  have hN := tOK_N ht
  have hg := nx_rng (s.2 6) (s.2 7)
  (try simp only [bI_0, bI_n, Classical.not_not] at *)
  (try have hq := ‹GO (s.2 6) (s.2 7) _ _ _ _›)
  (try have hq := hI.2.1)
  (try have hx := GO_at hq (x := a1) (by omega) (by omega))
  (try have hN2 : 0 < s.2 6 2 := lOK_N ht hl (by omega))
  (try have hy := GO_at hq (x := x3) (by omega) (by omega))
  (try have hb := many_b (fun x => nx (s.2 6) (s.2 7) x = x) x3.toNat)
  (try unfold lex3)
  (try simp only [bI_0, bI_n, Classical.not_not] at *)
  (try simp (disch := omega) only [i32_id] at *)
  first | done | omega | ((repeat' (with_reducible apply And.intro)) <;> first | assumption | rfl | omega | (exact hI.1) | (exact hI.2.1) | (exact hq) | (unfold rRounds; rw [if_neg (by omega)]) | (unfold rRounds; rw [if_pos (by omega), if_pos (by omega)]; exact many_c _ (fun i h0 h1 => by rw [(hq i h0 (by omega)).2.1])) | (have hc := GO_lg hq (by omega); rw [hc.1]; omega) | (have hc := GO_lg hq (by omega); rw [hc.1, hc.2.2]; unfold rRounds; rw [if_pos (by omega), if_neg (by omega), if_pos (by omega)]) | (have hc := GO_lg hq (by omega); rw [hc.1]; unfold rRounds; rw [if_pos (by omega), if_neg (by omega), if_neg (by omega), if_pos (by omega)]) | (unfold rRounds; rw [if_pos (by omega), if_neg (by omega), if_neg (by omega), if_neg (by omega), hI.2.2.2.2, show x3 = s.2 6 2 by omega]) | (have h9 := many_t (p := fun x => nx (s.2 6) (s.2 7) x = x) (k := x3) (by omega) (by rw [← hy.1.1.1]; assumption); omega) | (have h9 := many_f (p := fun x => nx (s.2 6) (s.2 7) x = x) (k := x3) (by omega) (by rw [← hy.1.1.1]; assumption); omega) | (have h9 : many (fun x => nx (s.2 6) (s.2 7) x = x) (0 : Int).toNat = 0 := rfl; omega) | grind [upI])
theorem vX3_rounds_8 (s : MS) (a1 : Int) (hp : tOK (s.2 6) ∧ aOK (s.2 6) (s.2 7) ∧ lOK ((s.2 5) 0) (s.2 6)) (c_2 : (bI (0 < (s.2 5) 0)) = 0) : (-2) = (rRounds ((s.2 5) 0) (s.2 6) (s.2 7) a1) := by
  obtain ⟨ht, ha, hl⟩ := hp
  have hN := tOK_N ht
  have hg := nx_rng (s.2 6) (s.2 7)
  (try simp only [bI_0, bI_n, Classical.not_not] at *)
  (try have hq := ‹GO (s.2 6) (s.2 7) _ _ _ _›)
  (try have hq := hI.2.1)
  (try have hx := GO_at hq (x := a1) (by omega) (by omega))
  (try have hN2 : 0 < s.2 6 2 := lOK_N ht hl (by omega))
  (try have hy := GO_at hq (x := x3) (by omega) (by omega))
  (try have hb := many_b (fun x => nx (s.2 6) (s.2 7) x = x) x3.toNat)
  (try unfold lex3)
  (try simp only [bI_0, bI_n, Classical.not_not] at *)
  (try simp (disch := omega) only [i32_id] at *)
  first | done | omega | ((repeat' (with_reducible apply And.intro)) <;> first | assumption | rfl | omega | (exact hI.1) | (exact hI.2.1) | (exact hq) | (unfold rRounds; rw [if_neg (by omega)]) | (unfold rRounds; rw [if_pos (by omega), if_pos (by omega)]; exact many_c _ (fun i h0 h1 => by rw [(hq i h0 (by omega)).2.1])) | (have hc := GO_lg hq (by omega); rw [hc.1]; omega) | (have hc := GO_lg hq (by omega); rw [hc.1, hc.2.2]; unfold rRounds; rw [if_pos (by omega), if_neg (by omega), if_pos (by omega)]) | (have hc := GO_lg hq (by omega); rw [hc.1]; unfold rRounds; rw [if_pos (by omega), if_neg (by omega), if_neg (by omega), if_pos (by omega)]) | (unfold rRounds; rw [if_pos (by omega), if_neg (by omega), if_neg (by omega), if_neg (by omega), hI.2.2.2.2, show x3 = s.2 6 2 by omega]) | (have h9 := many_t (p := fun x => nx (s.2 6) (s.2 7) x = x) (k := x3) (by omega) (by rw [← hy.1.1.1]; assumption); omega) | (have h9 := many_f (p := fun x => nx (s.2 6) (s.2 7) x = x) (k := x3) (by omega) (by rw [← hy.1.1.1]; assumption); omega) | (have h9 : many (fun x => nx (s.2 6) (s.2 7) x = x) (0 : Int).toNat = 0 := rfl; omega) | grind [upI])
theorem vX3_rounds_9 (s : MS) (a1 : Int) (hp : tOK (s.2 6) ∧ aOK (s.2 6) (s.2 7) ∧ lOK ((s.2 5) 0) (s.2 6)) (c_2 : ¬ (bI (0 < (s.2 5) 0)) = 0) (c_4 : ¬ (bI ((0 : Int) ≤ a1 ∧ a1 ≤ (3 : Int))) = 0) : (tOK (s.2 6) ∧ aOK (s.2 6) (s.2 7)) := by
  obtain ⟨ht, ha, hl⟩ := hp
  have hN := tOK_N ht
  have hg := nx_rng (s.2 6) (s.2 7)
  (try simp only [bI_0, bI_n, Classical.not_not] at *)
  (try have hq := ‹GO (s.2 6) (s.2 7) _ _ _ _›)
  (try have hq := hI.2.1)
  (try have hx := GO_at hq (x := a1) (by omega) (by omega))
  (try have hN2 : 0 < s.2 6 2 := lOK_N ht hl (by omega))
  (try have hy := GO_at hq (x := x3) (by omega) (by omega))
  (try have hb := many_b (fun x => nx (s.2 6) (s.2 7) x = x) x3.toNat)
  (try unfold lex3)
  (try simp only [bI_0, bI_n, Classical.not_not] at *)
  (try simp (disch := omega) only [i32_id] at *)
  first | done | omega | ((repeat' (with_reducible apply And.intro)) <;> first | assumption | rfl | omega | (exact hI.1) | (exact hI.2.1) | (exact hq) | (unfold rRounds; rw [if_neg (by omega)]) | (unfold rRounds; rw [if_pos (by omega), if_pos (by omega)]; exact many_c _ (fun i h0 h1 => by rw [(hq i h0 (by omega)).2.1])) | (have hc := GO_lg hq (by omega); rw [hc.1]; omega) | (have hc := GO_lg hq (by omega); rw [hc.1, hc.2.2]; unfold rRounds; rw [if_pos (by omega), if_neg (by omega), if_pos (by omega)]) | (have hc := GO_lg hq (by omega); rw [hc.1]; unfold rRounds; rw [if_pos (by omega), if_neg (by omega), if_neg (by omega), if_pos (by omega)]) | (unfold rRounds; rw [if_pos (by omega), if_neg (by omega), if_neg (by omega), if_neg (by omega), hI.2.2.2.2, show x3 = s.2 6 2 by omega]) | (have h9 := many_t (p := fun x => nx (s.2 6) (s.2 7) x = x) (k := x3) (by omega) (by rw [← hy.1.1.1]; assumption); omega) | (have h9 := many_f (p := fun x => nx (s.2 6) (s.2 7) x = x) (k := x3) (by omega) (by rw [← hy.1.1.1]; assumption); omega) | (have h9 : many (fun x => nx (s.2 6) (s.2 7) x = x) (0 : Int).toNat = 0 := rfl; omega) | grind [upI])
theorem vX3_rounds_10 (s : MS) (a1 : Int) (hp : tOK (s.2 6) ∧ aOK (s.2 6) (s.2 7) ∧ lOK ((s.2 5) 0) (s.2 6)) (c_2 : ¬ (bI (0 < (s.2 5) 0)) = 0) (c_4 : ¬ (bI ((0 : Int) ≤ a1 ∧ a1 ≤ (3 : Int))) = 0) (o_5 : (tOK (s.2 6) ∧ aOK (s.2 6) (s.2 7))) (f_6 : Int → Int) (f_7 : Int → Int) (f_8 : Int → Int) (f_9 : Int → Int) (f_10 : Int → Int) (f_11 : Int → Int) (f_12 : Int → Int) (k_13 : Int) (q_14 : (GO (s.2 6) (s.2 7) f_8 f_9 f_10 f_11)) (c_15 : ¬ a1 = 0) (c_16 : a1 < 2) : (0 : Int) = 0 ∧ GO (s.2 6) (s.2 7) f_8 f_9 f_10 f_11 ∧ (0 < s.2 5 0 ∧ a1 = 1) ∧ (0 ≤ (0 : Int) ∧ (0 : Int) ≤ s.2 6 2) ∧ (0 : Int) = many (fun x => nx (s.2 6) (s.2 7) x = x) (0 : Int).toNat := by
  obtain ⟨ht, ha, hl⟩ := hp
  have hN := tOK_N ht
  have hg := nx_rng (s.2 6) (s.2 7)
  (try simp only [bI_0, bI_n, Classical.not_not] at *)
  (try have hq := ‹GO (s.2 6) (s.2 7) _ _ _ _›)
  (try have hq := hI.2.1)
  (try have hx := GO_at hq (x := a1) (by omega) (by omega))
  (try have hN2 : 0 < s.2 6 2 := lOK_N ht hl (by omega))
  (try have hy := GO_at hq (x := x3) (by omega) (by omega))
  (try have hb := many_b (fun x => nx (s.2 6) (s.2 7) x = x) x3.toNat)
  (try unfold lex3)
  (try simp only [bI_0, bI_n, Classical.not_not] at *)
  (try simp (disch := omega) only [i32_id] at *)
  first | done | omega | ((repeat' (with_reducible apply And.intro)) <;> first | assumption | rfl | omega | (exact hI.1) | (exact hI.2.1) | (exact hq) | (unfold rRounds; rw [if_neg (by omega)]) | (unfold rRounds; rw [if_pos (by omega), if_pos (by omega)]; exact many_c _ (fun i h0 h1 => by rw [(hq i h0 (by omega)).2.1])) | (have hc := GO_lg hq (by omega); rw [hc.1]; omega) | (have hc := GO_lg hq (by omega); rw [hc.1, hc.2.2]; unfold rRounds; rw [if_pos (by omega), if_neg (by omega), if_pos (by omega)]) | (have hc := GO_lg hq (by omega); rw [hc.1]; unfold rRounds; rw [if_pos (by omega), if_neg (by omega), if_neg (by omega), if_pos (by omega)]) | (unfold rRounds; rw [if_pos (by omega), if_neg (by omega), if_neg (by omega), if_neg (by omega), hI.2.2.2.2, show x3 = s.2 6 2 by omega]) | (have h9 := many_t (p := fun x => nx (s.2 6) (s.2 7) x = x) (k := x3) (by omega) (by rw [← hy.1.1.1]; assumption); omega) | (have h9 := many_f (p := fun x => nx (s.2 6) (s.2 7) x = x) (k := x3) (by omega) (by rw [← hy.1.1.1]; assumption); omega) | (have h9 : many (fun x => nx (s.2 6) (s.2 7) x = x) (0 : Int).toNat = 0 := rfl; omega) | grind [upI])
theorem vX3_rounds_11 (s : MS) (a1 : Int) (hp : tOK (s.2 6) ∧ aOK (s.2 6) (s.2 7) ∧ lOK ((s.2 5) 0) (s.2 6)) (c_2 : ¬ (bI (0 < (s.2 5) 0)) = 0) (c_4 : ¬ (bI ((0 : Int) ≤ a1 ∧ a1 ≤ (3 : Int))) = 0) (o_5 : (tOK (s.2 6) ∧ aOK (s.2 6) (s.2 7))) (f_6 : Int → Int) (f_7 : Int → Int) (f_8 : Int → Int) (f_9 : Int → Int) (f_10 : Int → Int) (f_11 : Int → Int) (f_12 : Int → Int) (k_13 : Int) (q_14 : (GO (s.2 6) (s.2 7) f_8 f_9 f_10 f_11)) (c_15 : ¬ a1 = 0) (c_16 : ¬ a1 < 2) (c_17 : ¬ a1 = 2) : (tOK (s.2 6)) := by
  obtain ⟨ht, ha, hl⟩ := hp
  have hN := tOK_N ht
  have hg := nx_rng (s.2 6) (s.2 7)
  (try simp only [bI_0, bI_n, Classical.not_not] at *)
  (try have hq := ‹GO (s.2 6) (s.2 7) _ _ _ _›)
  (try have hq := hI.2.1)
  (try have hx := GO_at hq (x := a1) (by omega) (by omega))
  (try have hN2 : 0 < s.2 6 2 := lOK_N ht hl (by omega))
  (try have hy := GO_at hq (x := x3) (by omega) (by omega))
  (try have hb := many_b (fun x => nx (s.2 6) (s.2 7) x = x) x3.toNat)
  (try unfold lex3)
  (try simp only [bI_0, bI_n, Classical.not_not] at *)
  (try simp (disch := omega) only [i32_id] at *)
  first | done | omega | ((repeat' (with_reducible apply And.intro)) <;> first | assumption | rfl | omega | (exact hI.1) | (exact hI.2.1) | (exact hq) | (unfold rRounds; rw [if_neg (by omega)]) | (unfold rRounds; rw [if_pos (by omega), if_pos (by omega)]; exact many_c _ (fun i h0 h1 => by rw [(hq i h0 (by omega)).2.1])) | (have hc := GO_lg hq (by omega); rw [hc.1]; omega) | (have hc := GO_lg hq (by omega); rw [hc.1, hc.2.2]; unfold rRounds; rw [if_pos (by omega), if_neg (by omega), if_pos (by omega)]) | (have hc := GO_lg hq (by omega); rw [hc.1]; unfold rRounds; rw [if_pos (by omega), if_neg (by omega), if_neg (by omega), if_pos (by omega)]) | (unfold rRounds; rw [if_pos (by omega), if_neg (by omega), if_neg (by omega), if_neg (by omega), hI.2.2.2.2, show x3 = s.2 6 2 by omega]) | (have h9 := many_t (p := fun x => nx (s.2 6) (s.2 7) x = x) (k := x3) (by omega) (by rw [← hy.1.1.1]; assumption); omega) | (have h9 := many_f (p := fun x => nx (s.2 6) (s.2 7) x = x) (k := x3) (by omega) (by rw [← hy.1.1.1]; assumption); omega) | (have h9 : many (fun x => nx (s.2 6) (s.2 7) x = x) (0 : Int).toNat = 0 := rfl; omega) | grind [upI])
theorem vX3_rounds_12 (s : MS) (a1 : Int) (hp : tOK (s.2 6) ∧ aOK (s.2 6) (s.2 7) ∧ lOK ((s.2 5) 0) (s.2 6)) (c_2 : ¬ (bI (0 < (s.2 5) 0)) = 0) (c_4 : ¬ (bI ((0 : Int) ≤ a1 ∧ a1 ≤ (3 : Int))) = 0) (o_5 : (tOK (s.2 6) ∧ aOK (s.2 6) (s.2 7))) (f_6 : Int → Int) (f_7 : Int → Int) (f_8 : Int → Int) (f_9 : Int → Int) (f_10 : Int → Int) (f_11 : Int → Int) (f_12 : Int → Int) (k_13 : Int) (q_14 : (GO (s.2 6) (s.2 7) f_8 f_9 f_10 f_11)) (c_15 : ¬ a1 = 0) (c_16 : ¬ a1 < 2) (c_17 : ¬ a1 = 2) (o_18 : (tOK (s.2 6))) : (lgst (fun x => f_10 x = x) f_11 ((s.2 6) 2).toNat) = (rRounds ((s.2 5) 0) (s.2 6) (s.2 7) a1) := by
  obtain ⟨ht, ha, hl⟩ := hp
  have hN := tOK_N ht
  have hg := nx_rng (s.2 6) (s.2 7)
  (try simp only [bI_0, bI_n, Classical.not_not] at *)
  (try have hq := ‹GO (s.2 6) (s.2 7) _ _ _ _›)
  (try have hq := hI.2.1)
  (try have hx := GO_at hq (x := a1) (by omega) (by omega))
  (try have hN2 : 0 < s.2 6 2 := lOK_N ht hl (by omega))
  (try have hy := GO_at hq (x := x3) (by omega) (by omega))
  (try have hb := many_b (fun x => nx (s.2 6) (s.2 7) x = x) x3.toNat)
  (try unfold lex3)
  (try simp only [bI_0, bI_n, Classical.not_not] at *)
  (try simp (disch := omega) only [i32_id] at *)
  first | done | omega | ((repeat' (with_reducible apply And.intro)) <;> first | assumption | rfl | omega | (exact hI.1) | (exact hI.2.1) | (exact hq) | (unfold rRounds; rw [if_neg (by omega)]) | (unfold rRounds; rw [if_pos (by omega), if_pos (by omega)]; exact many_c _ (fun i h0 h1 => by rw [(hq i h0 (by omega)).2.1])) | (have hc := GO_lg hq (by omega); rw [hc.1]; omega) | (have hc := GO_lg hq (by omega); rw [hc.1, hc.2.2]; unfold rRounds; rw [if_pos (by omega), if_neg (by omega), if_pos (by omega)]) | (have hc := GO_lg hq (by omega); rw [hc.1]; unfold rRounds; rw [if_pos (by omega), if_neg (by omega), if_neg (by omega), if_pos (by omega)]) | (unfold rRounds; rw [if_pos (by omega), if_neg (by omega), if_neg (by omega), if_neg (by omega), hI.2.2.2.2, show x3 = s.2 6 2 by omega]) | (have h9 := many_t (p := fun x => nx (s.2 6) (s.2 7) x = x) (k := x3) (by omega) (by rw [← hy.1.1.1]; assumption); omega) | (have h9 := many_f (p := fun x => nx (s.2 6) (s.2 7) x = x) (k := x3) (by omega) (by rw [← hy.1.1.1]; assumption); omega) | (have h9 : many (fun x => nx (s.2 6) (s.2 7) x = x) (0 : Int).toNat = 0 := rfl; omega) | grind [upI])
theorem vX3_rounds_13 (s : MS) (a1 : Int) (hp : tOK (s.2 6) ∧ aOK (s.2 6) (s.2 7) ∧ lOK ((s.2 5) 0) (s.2 6)) (c_2 : ¬ (bI (0 < (s.2 5) 0)) = 0) (c_4 : ¬ (bI ((0 : Int) ≤ a1 ∧ a1 ≤ (3 : Int))) = 0) (o_5 : (tOK (s.2 6) ∧ aOK (s.2 6) (s.2 7))) (f_6 : Int → Int) (f_7 : Int → Int) (f_8 : Int → Int) (f_9 : Int → Int) (f_10 : Int → Int) (f_11 : Int → Int) (f_12 : Int → Int) (k_13 : Int) (q_14 : (GO (s.2 6) (s.2 7) f_8 f_9 f_10 f_11)) (c_15 : ¬ a1 = 0) (c_16 : ¬ a1 < 2) (c_17 : a1 = 2) : (tOK (s.2 6)) := by
  obtain ⟨ht, ha, hl⟩ := hp
  have hN := tOK_N ht
  have hg := nx_rng (s.2 6) (s.2 7)
  (try simp only [bI_0, bI_n, Classical.not_not] at *)
  (try have hq := ‹GO (s.2 6) (s.2 7) _ _ _ _›)
  (try have hq := hI.2.1)
  (try have hx := GO_at hq (x := a1) (by omega) (by omega))
  (try have hN2 : 0 < s.2 6 2 := lOK_N ht hl (by omega))
  (try have hy := GO_at hq (x := x3) (by omega) (by omega))
  (try have hb := many_b (fun x => nx (s.2 6) (s.2 7) x = x) x3.toNat)
  (try unfold lex3)
  (try simp only [bI_0, bI_n, Classical.not_not] at *)
  (try simp (disch := omega) only [i32_id] at *)
  first | done | omega | ((repeat' (with_reducible apply And.intro)) <;> first | assumption | rfl | omega | (exact hI.1) | (exact hI.2.1) | (exact hq) | (unfold rRounds; rw [if_neg (by omega)]) | (unfold rRounds; rw [if_pos (by omega), if_pos (by omega)]; exact many_c _ (fun i h0 h1 => by rw [(hq i h0 (by omega)).2.1])) | (have hc := GO_lg hq (by omega); rw [hc.1]; omega) | (have hc := GO_lg hq (by omega); rw [hc.1, hc.2.2]; unfold rRounds; rw [if_pos (by omega), if_neg (by omega), if_pos (by omega)]) | (have hc := GO_lg hq (by omega); rw [hc.1]; unfold rRounds; rw [if_pos (by omega), if_neg (by omega), if_neg (by omega), if_pos (by omega)]) | (unfold rRounds; rw [if_pos (by omega), if_neg (by omega), if_neg (by omega), if_neg (by omega), hI.2.2.2.2, show x3 = s.2 6 2 by omega]) | (have h9 := many_t (p := fun x => nx (s.2 6) (s.2 7) x = x) (k := x3) (by omega) (by rw [← hy.1.1.1]; assumption); omega) | (have h9 := many_f (p := fun x => nx (s.2 6) (s.2 7) x = x) (k := x3) (by omega) (by rw [← hy.1.1.1]; assumption); omega) | (have h9 : many (fun x => nx (s.2 6) (s.2 7) x = x) (0 : Int).toNat = 0 := rfl; omega) | grind [upI])
theorem vX3_rounds_14 (s : MS) (a1 : Int) (hp : tOK (s.2 6) ∧ aOK (s.2 6) (s.2 7) ∧ lOK ((s.2 5) 0) (s.2 6)) (c_2 : ¬ (bI (0 < (s.2 5) 0)) = 0) (c_4 : ¬ (bI ((0 : Int) ≤ a1 ∧ a1 ≤ (3 : Int))) = 0) (o_5 : (tOK (s.2 6) ∧ aOK (s.2 6) (s.2 7))) (f_6 : Int → Int) (f_7 : Int → Int) (f_8 : Int → Int) (f_9 : Int → Int) (f_10 : Int → Int) (f_11 : Int → Int) (f_12 : Int → Int) (k_13 : Int) (q_14 : (GO (s.2 6) (s.2 7) f_8 f_9 f_10 f_11)) (c_15 : ¬ a1 = 0) (c_16 : ¬ a1 < 2) (c_17 : a1 = 2) (o_20 : (tOK (s.2 6))) : (0 ≤ (lgst (fun x => f_10 x = x) f_11 ((s.2 6) 2).toNat) ∧ (lgst (fun x => f_10 x = x) f_11 ((s.2 6) 2).toNat) < 10000) := by
  obtain ⟨ht, ha, hl⟩ := hp
  have hN := tOK_N ht
  have hg := nx_rng (s.2 6) (s.2 7)
  (try simp only [bI_0, bI_n, Classical.not_not] at *)
  (try have hq := ‹GO (s.2 6) (s.2 7) _ _ _ _›)
  (try have hq := hI.2.1)
  (try have hx := GO_at hq (x := a1) (by omega) (by omega))
  (try have hN2 : 0 < s.2 6 2 := lOK_N ht hl (by omega))
  (try have hy := GO_at hq (x := x3) (by omega) (by omega))
  (try have hb := many_b (fun x => nx (s.2 6) (s.2 7) x = x) x3.toNat)
  (try unfold lex3)
  (try simp only [bI_0, bI_n, Classical.not_not] at *)
  (try simp (disch := omega) only [i32_id] at *)
  first | done | omega | ((repeat' (with_reducible apply And.intro)) <;> first | assumption | rfl | omega | (exact hI.1) | (exact hI.2.1) | (exact hq) | (unfold rRounds; rw [if_neg (by omega)]) | (unfold rRounds; rw [if_pos (by omega), if_pos (by omega)]; exact many_c _ (fun i h0 h1 => by rw [(hq i h0 (by omega)).2.1])) | (have hc := GO_lg hq (by omega); rw [hc.1]; omega) | (have hc := GO_lg hq (by omega); rw [hc.1, hc.2.2]; unfold rRounds; rw [if_pos (by omega), if_neg (by omega), if_pos (by omega)]) | (have hc := GO_lg hq (by omega); rw [hc.1]; unfold rRounds; rw [if_pos (by omega), if_neg (by omega), if_neg (by omega), if_pos (by omega)]) | (unfold rRounds; rw [if_pos (by omega), if_neg (by omega), if_neg (by omega), if_neg (by omega), hI.2.2.2.2, show x3 = s.2 6 2 by omega]) | (have h9 := many_t (p := fun x => nx (s.2 6) (s.2 7) x = x) (k := x3) (by omega) (by rw [← hy.1.1.1]; assumption); omega) | (have h9 := many_f (p := fun x => nx (s.2 6) (s.2 7) x = x) (k := x3) (by omega) (by rw [← hy.1.1.1]; assumption); omega) | (have h9 : many (fun x => nx (s.2 6) (s.2 7) x = x) (0 : Int).toNat = 0 := rfl; omega) | grind [upI])
theorem vX3_rounds_15 (s : MS) (a1 : Int) (hp : tOK (s.2 6) ∧ aOK (s.2 6) (s.2 7) ∧ lOK ((s.2 5) 0) (s.2 6)) (c_2 : ¬ (bI (0 < (s.2 5) 0)) = 0) (c_4 : ¬ (bI ((0 : Int) ≤ a1 ∧ a1 ≤ (3 : Int))) = 0) (o_5 : (tOK (s.2 6) ∧ aOK (s.2 6) (s.2 7))) (f_6 : Int → Int) (f_7 : Int → Int) (f_8 : Int → Int) (f_9 : Int → Int) (f_10 : Int → Int) (f_11 : Int → Int) (f_12 : Int → Int) (k_13 : Int) (q_14 : (GO (s.2 6) (s.2 7) f_8 f_9 f_10 f_11)) (c_15 : ¬ a1 = 0) (c_16 : ¬ a1 < 2) (c_17 : a1 = 2) (o_20 : (tOK (s.2 6))) (o_22 : (0 ≤ (lgst (fun x => f_10 x = x) f_11 ((s.2 6) 2).toNat) ∧ (lgst (fun x => f_10 x = x) f_11 ((s.2 6) 2).toNat) < 10000)) : (f_11 (lgst (fun x => f_10 x = x) f_11 ((s.2 6) 2).toNat)) = (rRounds ((s.2 5) 0) (s.2 6) (s.2 7) a1) := by
  obtain ⟨ht, ha, hl⟩ := hp
  have hN := tOK_N ht
  have hg := nx_rng (s.2 6) (s.2 7)
  (try simp only [bI_0, bI_n, Classical.not_not] at *)
  (try have hq := ‹GO (s.2 6) (s.2 7) _ _ _ _›)
  (try have hq := hI.2.1)
  (try have hx := GO_at hq (x := a1) (by omega) (by omega))
  (try have hN2 : 0 < s.2 6 2 := lOK_N ht hl (by omega))
  (try have hy := GO_at hq (x := x3) (by omega) (by omega))
  (try have hb := many_b (fun x => nx (s.2 6) (s.2 7) x = x) x3.toNat)
  (try unfold lex3)
  (try simp only [bI_0, bI_n, Classical.not_not] at *)
  (try simp (disch := omega) only [i32_id] at *)
  first | done | omega | ((repeat' (with_reducible apply And.intro)) <;> first | assumption | rfl | omega | (exact hI.1) | (exact hI.2.1) | (exact hq) | (unfold rRounds; rw [if_neg (by omega)]) | (unfold rRounds; rw [if_pos (by omega), if_pos (by omega)]; exact many_c _ (fun i h0 h1 => by rw [(hq i h0 (by omega)).2.1])) | (have hc := GO_lg hq (by omega); rw [hc.1]; omega) | (have hc := GO_lg hq (by omega); rw [hc.1, hc.2.2]; unfold rRounds; rw [if_pos (by omega), if_neg (by omega), if_pos (by omega)]) | (have hc := GO_lg hq (by omega); rw [hc.1]; unfold rRounds; rw [if_pos (by omega), if_neg (by omega), if_neg (by omega), if_pos (by omega)]) | (unfold rRounds; rw [if_pos (by omega), if_neg (by omega), if_neg (by omega), if_neg (by omega), hI.2.2.2.2, show x3 = s.2 6 2 by omega]) | (have h9 := many_t (p := fun x => nx (s.2 6) (s.2 7) x = x) (k := x3) (by omega) (by rw [← hy.1.1.1]; assumption); omega) | (have h9 := many_f (p := fun x => nx (s.2 6) (s.2 7) x = x) (k := x3) (by omega) (by rw [← hy.1.1.1]; assumption); omega) | (have h9 : many (fun x => nx (s.2 6) (s.2 7) x = x) (0 : Int).toNat = 0 := rfl; omega) | grind [upI])
theorem vX3_rounds_16 (s : MS) (a1 : Int) (hp : tOK (s.2 6) ∧ aOK (s.2 6) (s.2 7) ∧ lOK ((s.2 5) 0) (s.2 6)) (c_2 : ¬ (bI (0 < (s.2 5) 0)) = 0) (c_4 : ¬ (bI ((0 : Int) ≤ a1 ∧ a1 ≤ (3 : Int))) = 0) (o_5 : (tOK (s.2 6) ∧ aOK (s.2 6) (s.2 7))) (f_6 : Int → Int) (f_7 : Int → Int) (f_8 : Int → Int) (f_9 : Int → Int) (f_10 : Int → Int) (f_11 : Int → Int) (f_12 : Int → Int) (k_13 : Int) (q_14 : (GO (s.2 6) (s.2 7) f_8 f_9 f_10 f_11)) (c_15 : a1 = 0) : (tOK (s.2 6)) := by
  obtain ⟨ht, ha, hl⟩ := hp
  have hN := tOK_N ht
  have hg := nx_rng (s.2 6) (s.2 7)
  (try simp only [bI_0, bI_n, Classical.not_not] at *)
  (try have hq := ‹GO (s.2 6) (s.2 7) _ _ _ _›)
  (try have hq := hI.2.1)
  (try have hx := GO_at hq (x := a1) (by omega) (by omega))
  (try have hN2 : 0 < s.2 6 2 := lOK_N ht hl (by omega))
  (try have hy := GO_at hq (x := x3) (by omega) (by omega))
  (try have hb := many_b (fun x => nx (s.2 6) (s.2 7) x = x) x3.toNat)
  (try unfold lex3)
  (try simp only [bI_0, bI_n, Classical.not_not] at *)
  (try simp (disch := omega) only [i32_id] at *)
  first | done | omega | ((repeat' (with_reducible apply And.intro)) <;> first | assumption | rfl | omega | (exact hI.1) | (exact hI.2.1) | (exact hq) | (unfold rRounds; rw [if_neg (by omega)]) | (unfold rRounds; rw [if_pos (by omega), if_pos (by omega)]; exact many_c _ (fun i h0 h1 => by rw [(hq i h0 (by omega)).2.1])) | (have hc := GO_lg hq (by omega); rw [hc.1]; omega) | (have hc := GO_lg hq (by omega); rw [hc.1, hc.2.2]; unfold rRounds; rw [if_pos (by omega), if_neg (by omega), if_pos (by omega)]) | (have hc := GO_lg hq (by omega); rw [hc.1]; unfold rRounds; rw [if_pos (by omega), if_neg (by omega), if_neg (by omega), if_pos (by omega)]) | (unfold rRounds; rw [if_pos (by omega), if_neg (by omega), if_neg (by omega), if_neg (by omega), hI.2.2.2.2, show x3 = s.2 6 2 by omega]) | (have h9 := many_t (p := fun x => nx (s.2 6) (s.2 7) x = x) (k := x3) (by omega) (by rw [← hy.1.1.1]; assumption); omega) | (have h9 := many_f (p := fun x => nx (s.2 6) (s.2 7) x = x) (k := x3) (by omega) (by rw [← hy.1.1.1]; assumption); omega) | (have h9 : many (fun x => nx (s.2 6) (s.2 7) x = x) (0 : Int).toNat = 0 := rfl; omega) | grind [upI])
theorem vX3_rounds_17 (s : MS) (a1 : Int) (hp : tOK (s.2 6) ∧ aOK (s.2 6) (s.2 7) ∧ lOK ((s.2 5) 0) (s.2 6)) (c_2 : ¬ (bI (0 < (s.2 5) 0)) = 0) (c_4 : ¬ (bI ((0 : Int) ≤ a1 ∧ a1 ≤ (3 : Int))) = 0) (o_5 : (tOK (s.2 6) ∧ aOK (s.2 6) (s.2 7))) (f_6 : Int → Int) (f_7 : Int → Int) (f_8 : Int → Int) (f_9 : Int → Int) (f_10 : Int → Int) (f_11 : Int → Int) (f_12 : Int → Int) (k_13 : Int) (q_14 : (GO (s.2 6) (s.2 7) f_8 f_9 f_10 f_11)) (c_15 : a1 = 0) (o_23 : (tOK (s.2 6))) : (many (fun x => f_10 x = x) ((s.2 6) 2).toNat) = (rRounds ((s.2 5) 0) (s.2 6) (s.2 7) a1) := by
  obtain ⟨ht, ha, hl⟩ := hp
  have hN := tOK_N ht
  have hg := nx_rng (s.2 6) (s.2 7)
  (try simp only [bI_0, bI_n, Classical.not_not] at *)
  (try have hq := ‹GO (s.2 6) (s.2 7) _ _ _ _›)
  (try have hq := hI.2.1)
  (try have hx := GO_at hq (x := a1) (by omega) (by omega))
  (try have hN2 : 0 < s.2 6 2 := lOK_N ht hl (by omega))
  (try have hy := GO_at hq (x := x3) (by omega) (by omega))
  (try have hb := many_b (fun x => nx (s.2 6) (s.2 7) x = x) x3.toNat)
  (try unfold lex3)
  (try simp only [bI_0, bI_n, Classical.not_not] at *)
  (try simp (disch := omega) only [i32_id] at *)
  first | done | omega | ((repeat' (with_reducible apply And.intro)) <;> first | assumption | rfl | omega | (exact hI.1) | (exact hI.2.1) | (exact hq) | (unfold rRounds; rw [if_neg (by omega)]) | (unfold rRounds; rw [if_pos (by omega), if_pos (by omega)]; exact many_c _ (fun i h0 h1 => by rw [(hq i h0 (by omega)).2.1])) | (have hc := GO_lg hq (by omega); rw [hc.1]; omega) | (have hc := GO_lg hq (by omega); rw [hc.1, hc.2.2]; unfold rRounds; rw [if_pos (by omega), if_neg (by omega), if_pos (by omega)]) | (have hc := GO_lg hq (by omega); rw [hc.1]; unfold rRounds; rw [if_pos (by omega), if_neg (by omega), if_neg (by omega), if_pos (by omega)]) | (unfold rRounds; rw [if_pos (by omega), if_neg (by omega), if_neg (by omega), if_neg (by omega), hI.2.2.2.2, show x3 = s.2 6 2 by omega]) | (have h9 := many_t (p := fun x => nx (s.2 6) (s.2 7) x = x) (k := x3) (by omega) (by rw [← hy.1.1.1]; assumption); omega) | (have h9 := many_f (p := fun x => nx (s.2 6) (s.2 7) x = x) (k := x3) (by omega) (by rw [← hy.1.1.1]; assumption); omega) | (have h9 : many (fun x => nx (s.2 6) (s.2 7) x = x) (0 : Int).toNat = 0 := rfl; omega) | grind [upI])
theorem vX3_rounds_18 (s : MS) (a1 : Int) (hp : tOK (s.2 6) ∧ aOK (s.2 6) (s.2 7) ∧ lOK ((s.2 5) 0) (s.2 6)) (c_2 : ¬ (bI (0 < (s.2 5) 0)) = 0) (c_4 : (bI ((0 : Int) ≤ a1 ∧ a1 ≤ (3 : Int))) = 0) : (-2) = (rRounds ((s.2 5) 0) (s.2 6) (s.2 7) a1) := by
  obtain ⟨ht, ha, hl⟩ := hp
  have hN := tOK_N ht
  have hg := nx_rng (s.2 6) (s.2 7)
  (try simp only [bI_0, bI_n, Classical.not_not] at *)
  (try have hq := ‹GO (s.2 6) (s.2 7) _ _ _ _›)
  (try have hq := hI.2.1)
  (try have hx := GO_at hq (x := a1) (by omega) (by omega))
  (try have hN2 : 0 < s.2 6 2 := lOK_N ht hl (by omega))
  (try have hy := GO_at hq (x := x3) (by omega) (by omega))
  (try have hb := many_b (fun x => nx (s.2 6) (s.2 7) x = x) x3.toNat)
  (try unfold lex3)
  (try simp only [bI_0, bI_n, Classical.not_not] at *)
  (try simp (disch := omega) only [i32_id] at *)
  first | done | omega | ((repeat' (with_reducible apply And.intro)) <;> first | assumption | rfl | omega | (exact hI.1) | (exact hI.2.1) | (exact hq) | (unfold rRounds; rw [if_neg (by omega)]) | (unfold rRounds; rw [if_pos (by omega), if_pos (by omega)]; exact many_c _ (fun i h0 h1 => by rw [(hq i h0 (by omega)).2.1])) | (have hc := GO_lg hq (by omega); rw [hc.1]; omega) | (have hc := GO_lg hq (by omega); rw [hc.1, hc.2.2]; unfold rRounds; rw [if_pos (by omega), if_neg (by omega), if_pos (by omega)]) | (have hc := GO_lg hq (by omega); rw [hc.1]; unfold rRounds; rw [if_pos (by omega), if_neg (by omega), if_neg (by omega), if_pos (by omega)]) | (unfold rRounds; rw [if_pos (by omega), if_neg (by omega), if_neg (by omega), if_neg (by omega), hI.2.2.2.2, show x3 = s.2 6 2 by omega]) | (have h9 := many_t (p := fun x => nx (s.2 6) (s.2 7) x = x) (k := x3) (by omega) (by rw [← hy.1.1.1]; assumption); omega) | (have h9 := many_f (p := fun x => nx (s.2 6) (s.2 7) x = x) (k := x3) (by omega) (by rw [← hy.1.1.1]; assumption); omega) | (have h9 : many (fun x => nx (s.2 6) (s.2 7) x = x) (0 : Int).toNat = 0 := rfl; omega) | grind [upI])
theorem allX3_rounds (b : AH) (s : MS) (a1 : Int) (hp : tOK (s.2 6) ∧ aOK (s.2 6) (s.2 7) ∧ lOK ((s.2 5) 0) (s.2 6)) : ∀ m1 m2 m3 : Nat, (∀ (x2 : Int) (x3 : Int) (f11 : Int → Int) (f12 : Int → Int) (f13 : Int → Int) (f14 : Int → Int) (f15 : Int → Int) (f16 : Int → Int) (f17 : Int → Int) (f18 : Int → Int) (f19 : Int → Int) (k0 : Int) (k25 : Int) (k33 : Int) (k34 : Int), m1 = 0 → m2 = 0 → m3 = ((s.2 6 2 - x3).toNat) → (k0 = 0 ∧ GO (s.2 6) (s.2 7) f13 f14 f15 f16 ∧ (0 < s.2 5 0 ∧ a1 = 1) ∧ (0 ≤ x3 ∧ x3 ≤ s.2 6 2) ∧ x2 = many (fun x => nx (s.2 6) (s.2 7) x = x) x3.toNat) → HX3_rounds_71 (QX3_rounds s a1) b s x2 x3 f11 f12 f13 f14 f15 f16 f17 f18 f19 k0 k25 k33 k34) := by
  refine lex3_ind ?_
  intro m1 m2 m3 ih
  rintro x2 x3 f11 f12 f13 f14 f15 f16 f17 f18 f19 k0 k25 k33 k34 rfl rfl rfl hI
  refine bX3_rounds_71 b s x2 x3 f11 f12 f13 f14 f15 f16 f17 f18 f19 k0 k25 k33 k34 ?_
  refine ⟨fun c_1 => ?_, fun c_1 => ?_⟩
  · exact ⟨f11, f12, f13, f14, f15, f16, f17, f18, f19, k25, k33, k34, (rI_c (vX3_rounds_2 s a1 hp x2 x3 f11 f12 f13 f14 f15 f16 f17 f18 f19 k0 k25 k33 k34 hI c_1)), (sS_c (sS_c (sS_c (sS_c (sA_c (sA_c (sA_c (sA_c (sA_c (sA_c (sA_c (sA_c (sA_c rfl rfl) rfl) rfl) rfl) rfl) rfl) rfl) rfl) rfl) (vX3_rounds_1 s a1 hp x2 x3 f11 f12 f13 f14 f15 f16 f17 f18 f19 k0 k25 k33 k34 hI c_1)) rfl) rfl) rfl)⟩
  · have o_2 : (0 ≤ x3 ∧ x3 < 10000) := (vX3_rounds_3 s a1 hp x2 x3 f11 f12 f13 f14 f15 f16 f17 f18 f19 k0 k25 k33 k34 hI c_1)
    refine ⟨o_2, ?_⟩
    refine ⟨fun c_3 => ?_, fun c_3 => ?_⟩
    · exact (ih _ _ _ (vX3_rounds_5 s a1 hp x2 x3 f11 f12 f13 f14 f15 f16 f17 f18 f19 k0 k25 k33 k34 hI c_1 o_2 c_3)) (i32 (x2 + 0)) (i32 (x3 + 1)) f11 f12 f13 f14 f15 f16 f17 f18 f19 k0 k25 k33 k34 rfl rfl rfl (vX3_rounds_4 s a1 hp x2 x3 f11 f12 f13 f14 f15 f16 f17 f18 f19 k0 k25 k33 k34 hI c_1 o_2 c_3)
    · exact (ih _ _ _ (vX3_rounds_7 s a1 hp x2 x3 f11 f12 f13 f14 f15 f16 f17 f18 f19 k0 k25 k33 k34 hI c_1 o_2 c_3)) (i32 (x2 + 1)) (i32 (x3 + 1)) f11 f12 f13 f14 f15 f16 f17 f18 f19 k0 k25 k33 k34 rfl rfl rfl (vX3_rounds_6 s a1 hp x2 x3 f11 f12 f13 f14 f15 f16 f17 f18 f19 k0 k25 k33 k34 hI c_1 o_2 c_3)
theorem ctX3_rounds (b : AH) (s : MS) (a1 : Int) (hp : tOK (s.2 6) ∧ aOK (s.2 6) (s.2 7) ∧ lOK ((s.2 5) 0) (s.2 6)) : MC mX3_rounds 9 b s [vI a1] (QX3_rounds s a1) := by
  refine MC.of (by decide) rfl (Nat.le_of_ble_eq_true rfl) (JW.steq (s2 := sS (sS (sS (sS (sA (sA (sA (sA (sA (sA (sA (sA (sA s 11 (s.2 11)) 12 (s.2 12)) 13 (s.2 13)) 14 (s.2 14)) 15 (s.2 15)) 16 (s.2 16)) 17 (s.2 17)) 18 (s.2 18)) 19 (s.2 19)) 0 (s.1 0)) 25 (s.1 25)) 33 (s.1 33)) 34 (s.1 34)) (by simp only [sA_id, sS_id]) ?_)
  refine bX3_rounds_0 b s a1 (s.2 11) (s.2 12) (s.2 13) (s.2 14) (s.2 15) (s.2 16) (s.2 17) (s.2 18) (s.2 19) (s.1 0) (s.1 25) (s.1 33) (s.1 34) ?_
  refine ⟨fun c_2 => ?_, fun c_2 => ?_⟩
  · exact ⟨(s.2 11), (s.2 12), (s.2 13), (s.2 14), (s.2 15), (s.2 16), (s.2 17), (s.2 18), (s.2 19), (s.1 25), (s.1 33), (s.1 34), (rI_c (vX3_rounds_8 s a1 hp c_2)), rfl⟩
  · refine ⟨fun c_4 => ?_, fun c_4 => ?_⟩
    · have o_5 : (tOK (s.2 6) ∧ aOK (s.2 6) (s.2 7)) := (vX3_rounds_9 s a1 hp c_2 c_4)
      refine ⟨o_5, ?_⟩
      intro f_6 f_7 f_8 f_9 f_10 f_11 f_12 k_13 q_14
      refine ⟨fun c_15 => ?_, fun c_15 => ?_⟩
      · refine ⟨fun c_16 => ?_, fun c_16 => ?_⟩
        · exact (allX3_rounds b s a1 hp _ _ _) 0 0 f_6 f_7 f_8 f_9 f_10 f_11 f_12 (s.2 18) (s.2 19) 0 k_13 (s.1 33) (s.1 34) rfl rfl rfl (vX3_rounds_10 s a1 hp c_2 c_4 o_5 f_6 f_7 f_8 f_9 f_10 f_11 f_12 k_13 q_14 c_15 c_16)
        · refine ⟨fun c_17 => ?_, fun c_17 => ?_⟩
          · have o_18 : (tOK (s.2 6)) := (vX3_rounds_11 s a1 hp c_2 c_4 o_5 f_6 f_7 f_8 f_9 f_10 f_11 f_12 k_13 q_14 c_15 c_16 c_17)
            refine ⟨o_18, ?_⟩
            exact ⟨f_6, f_7, f_8, f_9, f_10, f_11, f_12, (s.2 18), (s.2 19), k_13, (s.1 33), (s.1 34), (rI_c (vX3_rounds_12 s a1 hp c_2 c_4 o_5 f_6 f_7 f_8 f_9 f_10 f_11 f_12 k_13 q_14 c_15 c_16 c_17 o_18)), rfl⟩
          · have o_20 : (tOK (s.2 6)) := (vX3_rounds_13 s a1 hp c_2 c_4 o_5 f_6 f_7 f_8 f_9 f_10 f_11 f_12 k_13 q_14 c_15 c_16 c_17)
            refine ⟨o_20, ?_⟩
            have o_22 : (0 ≤ (lgst (fun x => f_10 x = x) f_11 ((s.2 6) 2).toNat) ∧ (lgst (fun x => f_10 x = x) f_11 ((s.2 6) 2).toNat) < 10000) := (vX3_rounds_14 s a1 hp c_2 c_4 o_5 f_6 f_7 f_8 f_9 f_10 f_11 f_12 k_13 q_14 c_15 c_16 c_17 o_20)
            refine ⟨o_22, ?_⟩
            exact ⟨f_6, f_7, f_8, f_9, f_10, f_11, f_12, (s.2 18), (s.2 19), k_13, (s.1 33), (s.1 34), (rI_c (vX3_rounds_15 s a1 hp c_2 c_4 o_5 f_6 f_7 f_8 f_9 f_10 f_11 f_12 k_13 q_14 c_15 c_16 c_17 o_20 o_22)), rfl⟩
      · have o_23 : (tOK (s.2 6)) := (vX3_rounds_16 s a1 hp c_2 c_4 o_5 f_6 f_7 f_8 f_9 f_10 f_11 f_12 k_13 q_14 c_15)
        refine ⟨o_23, ?_⟩
        exact ⟨f_6, f_7, f_8, f_9, f_10, f_11, f_12, (s.2 18), (s.2 19), k_13, (s.1 33), (s.1 34), (rI_c (vX3_rounds_17 s a1 hp c_2 c_4 o_5 f_6 f_7 f_8 f_9 f_10 f_11 f_12 k_13 q_14 c_15 o_23)), rfl⟩
    · exact ⟨(s.2 11), (s.2 12), (s.2 13), (s.2 14), (s.2 15), (s.2 16), (s.2 17), (s.2 18), (s.2 19), (s.1 25), (s.1 33), (s.1 34), (rI_c (vX3_rounds_18 s a1 hp c_2 c_4)), rfl⟩
def HX3_round_0 (Q : Option AV → MS → Prop) (b : AH) (s : MS) (x1 : Int) (x2 : Int) (f11 : Int → Int) (f12 : Int → Int) (f13 : Int → Int) (f14 : Int → Int) (f15 : Int → Int) (f16 : Int → Int) (f17 : Int → Int) (f18 : Int → Int) (f19 : Int → Int) (k0 : Int) (k25 : Int) (k33 : Int) (k34 : Int) : Prop := MW mX3_round 9 Q b 0 [(0, vR 351), (1, vI x1), (2, vI x2)] [] (sS (sS (sS (sS (sA (sA (sA (sA (sA (sA (sA (sA (sA s 11 f11) 12 f12) 13 f13) 14 f14) 15 f15) 16 f16) 17 f17) 18 f18) 19 f19) 0 k0) 25 k25) 33 k33) 34 k34)
def HX3_round_69 (Q : Option AV → MS → Prop) (b : AH) (s : MS) (x2 : Int) (x3 : Int) (x4 : Int) (x5 : Int) (x6 : Int) (f11 : Int → Int) (f12 : Int → Int) (f13 : Int → Int) (f14 : Int → Int) (f15 : Int → Int) (f16 : Int → Int) (f17 : Int → Int) (f18 : Int → Int) (f19 : Int → Int) (k0 : Int) (k25 : Int) (k33 : Int) (k34 : Int) : Prop := MW mX3_round 9 Q b 69 [(0, vR 351), (2, vI x2), (3, vI x3), (4, vI x4), (5, vI x5), (6, vI x6)] [] (sS (sS (sS (sS (sA (sA (sA (sA (sA (sA (sA (sA (sA s 11 f11) 12 f12) 13 f13) 14 f14) 15 f15) 16 f16) 17 f17) 18 f18) 19 f19) 0 k0) 25 k25) 33 k33) 34 k34)
theorem bX3_round_0 {Q : Option AV → MS → Prop} (b : AH) (s : MS) (x1 : Int) (x2 : Int) (f11 : Int → Int) (f12 : Int → Int) (f13 : Int → Int) (f14 : Int → Int) (f15 : Int → Int) (f16 : Int → Int) (f17 : Int → Int) (f18 : Int → Int) (f19 : Int → Int) (k0 : Int) (k25 : Int) (k33 : Int) (k34 : Int) (K : ((bI (0 < (s.2 5) 0)) = 0 → Q (some (vI (-2))) (sS (sS (sS (sS (sA (sA (sA (sA (sA (sA (sA (sA (sA s 11 f11) 12 f12) 13 f13) 14 f14) 15 f15) 16 f16) 17 f17) 18 f18) 19 f19) 0 0) 25 k25) 33 k33) 34 k34)) ∧ (¬ (bI (0 < (s.2 5) 0)) = 0 → (¬ (bI ((0 : Int) ≤ x2 ∧ x2 ≤ (3 : Int))) = 0 → (tOK (s.2 6) ∧ aOK (s.2 6) (s.2 7)) ∧ ((∀ (f_6 : Int → Int) (f_7 : Int → Int) (f_8 : Int → Int) (f_9 : Int → Int) (f_10 : Int → Int) (f_11 : Int → Int) (f_12 : Int → Int) (k_13 : Int), (GO (s.2 6) (s.2 7) f_8 f_9 f_10 f_11) → (tOK (s.2 6) ∧ (-2147483648 ≤ x1 ∧ x1 < 2147483648)) ∧ ((∀ (r_16 : Int), (isNth (fun x => f_10 x = x) ((s.2 6) 2) x1 r_16) → (r_16 = (-1) → Q (some (vI r_16)) (sS (sS (sS (sS (sA (sA (sA (sA (sA (sA (sA (sA (sA s 11 f_6) 12 f_7) 13 f_8) 14 f_9) 15 f_10) 16 f_11) 17 f_12) 18 f18) 19 f19) 0 0) 25 k_13) 33 k33) 34 k34)) ∧ (¬ r_16 = (-1) → (¬ x2 = 0 → (¬ x2 = 1 → HX3_round_69 Q b s x2 r_16 0 0 0 f_6 f_7 f_8 f_9 f_10 f_11 f_12 f18 f19 0 k_13 k33 k34) ∧ (x2 = 1 → (0 ≤ r_16 ∧ r_16 < 10000) ∧ (Q (some (vI (f_11 r_16))) (sS (sS (sS (sS (sA (sA (sA (sA (sA (sA (sA (sA (sA s 11 f_6) 12 f_7) 13 f_8) 14 f_9) 15 f_10) 16 f_11) 17 f_12) 18 f18) 19 f19) 0 0) 25 k_13) 33 k33) 34 k34)))) ∧ (x2 = 0 → Q (some (vI r_16)) (sS (sS (sS (sS (sA (sA (sA (sA (sA (sA (sA (sA (sA s 11 f_6) 12 f_7) 13 f_8) 14 f_9) 15 f_10) 16 f_11) 17 f_12) 18 f18) 19 f19) 0 0) 25 k_13) 33 k33) 34 k34)))))))) ∧ ((bI ((0 : Int) ≤ x2 ∧ x2 ≤ (3 : Int))) = 0 → Q (some (vI (-2))) (sS (sS (sS (sS (sA (sA (sA (sA (sA (sA (sA (sA (sA s 11 f11) 12 f12) 13 f13) 14 f14) 15 f15) 16 f16) 17 f17) 18 f18) 19 f19) 0 0) 25 k25) 33 k33) 34 k34)))) : HX3_round_0 Q b s x1 x2 f11 f12 f13 f14 f15 f16 f17 f18 f19 k0 k25 k33 k34 := by
  refine JW.aload_n dX3_round_0 rfl ?_
  refine JW.iconst dX3_round_1 rfl ?_
  refine JW.mputI dX3_round_2 (pX3_77 _) rfl ?_
  refine JW.steq (s2 := sS (sS (sS (sS (sA (sA (sA (sA (sA (sA (sA (sA (sA s 11 f11) 12 f12) 13 f13) 14 f14) 15 f15) 16 f16) 17 f17) 18 f18) 19 f19) 0 0) 25 k25) 33 k33) 34 k34) (by simp only [sA_A, sS_S, sA_S, sA_lt, sS_lt, Nat.reduceLT, id_eq] <;> rfl) ?_
  refine JW.aload_n dX3_round_5 rfl ?_
  refine JW.mcall (As := []) dX3_round_6 vX3_isTable rfl q1798 (ctX3_isTable b (sS (sS (sS (sS (sA (sA (sA (sA (sA (sA (sA (sA (sA s 11 f11) 12 f12) 13 f13) 14 f14) 15 f15) 16 f16) 17 f17) 18 f18) 19 f19) 0 0) 25 k25) 33 k33) 34 k34)) (Nat.le_of_ble_eq_true rfl) rfl (Nat.le_of_ble_eq_true rfl) ?_
  rintro _ _ ⟨rfl, eq_1⟩
  refine JW.steq (s2 := sS (sS (sS (sS (sA (sA (sA (sA (sA (sA (sA (sA (sA s 11 f11) 12 f12) 13 f13) 14 f14) 15 f15) 16 f16) 17 f17) 18 f18) 19 f19) 0 0) 25 k25) 33 k33) 34 k34) eq_1 ?_
  refine JW.if_eq (tgt := 24) dX3_round_9 rfl (fun c_2 => ?_) (fun c_2 => ?_)
  · have K := K.1 c_2
    refine JW.bipush dX3_round_24 rfl ?_
    exact JW.ireturn dX3_round_26 rfl rfl ⟨_, rfl, K⟩
  · have K := K.2 c_2
    refine JW.iload_n dX3_round_12 rfl ?_
    refine JW.i2l dX3_round_13 ?_
    refine JW.lconst (x := 0) dX3_round_14 rfl ?_
    refine JW.ldc2 (x := 3) dX3_round_15 q1631 rfl ?_
    refine JW.mcallS (As := [vL x2, vL 0, vL 3]) dX3_round_18 vX3_in q1632 (ctX3_in b (sS (sS (sS (sS (sA (sA (sA (sA (sA (sA (sA (sA (sA s 11 f11) 12 f12) 13 f13) 14 f14) 15 f15) 16 f16) 17 f17) 18 f18) 19 f19) 0 0) 25 k25) 33 k33) 34 k34) x2 0 3) (Nat.le_of_ble_eq_true rfl) rfl (Nat.le_of_ble_eq_true rfl) ?_
    rintro _ _ ⟨rfl, eq_3⟩
    refine JW.steq (s2 := sS (sS (sS (sS (sA (sA (sA (sA (sA (sA (sA (sA (sA s 11 f11) 12 f12) 13 f13) 14 f14) 15 f15) 16 f16) 17 f17) 18 f18) 19 f19) 0 0) 25 k25) 33 k33) 34 k34) eq_3 ?_
    refine JW.if_ne (tgt := 27) dX3_round_21 rfl (fun c_4 => ?_) (fun c_4 => ?_)
    · have K := K.1 c_4
      refine JW.aload_n dX3_round_27 rfl ?_
      obtain ⟨o_5, K⟩ := K
      refine JW.mcall (As := []) dX3_round_28 vX3_all rfl q1863 (ctX3_all b (sS (sS (sS (sS (sA (sA (sA (sA (sA (sA (sA (sA (sA s 11 f11) 12 f12) 13 f13) 14 f14) 15 f15) 16 f16) 17 f17) 18 f18) 19 f19) 0 0) 25 k25) 33 k33) 34 k34) o_5) (Nat.le_of_ble_eq_true rfl) rfl (Nat.le_of_ble_eq_true rfl) ?_
      rintro _ _ ⟨f_6, f_7, f_8, f_9, f_10, f_11, f_12, k_13, rfl, rfl, q_14⟩
      refine JW.steq (s2 := sS (sS (sS (sS (sA (sA (sA (sA (sA (sA (sA (sA (sA s 11 f_6) 12 f_7) 13 f_8) 14 f_9) 15 f_10) 16 f_11) 17 f_12) 18 f18) 19 f19) 0 0) 25 k_13) 33 k33) 34 k34) (by simp only [sA_A, sS_S, sA_S, sA_lt, sS_lt, Nat.reduceLT, id_eq] <;> rfl) ?_
      replace K := K f_6 f_7 f_8 f_9 f_10 f_11 f_12 k_13 q_14
      refine JW.aload_n dX3_round_31 rfl ?_
      refine JW.iload_n dX3_round_32 rfl ?_
      obtain ⟨o_15, K⟩ := K
      refine JW.mcall (As := [vI x1]) dX3_round_33 vX3_homeOf rfl q1911 (ctX3_homeOf b (sS (sS (sS (sS (sA (sA (sA (sA (sA (sA (sA (sA (sA s 11 f_6) 12 f_7) 13 f_8) 14 f_9) 15 f_10) 16 f_11) 17 f_12) 18 f18) 19 f19) 0 0) 25 k_13) 33 k33) 34 k34) x1 o_15) (Nat.le_of_ble_eq_true rfl) rfl (Nat.le_of_ble_eq_true rfl) ?_
      rintro _ _ ⟨r_16, rfl, eq_17, q_17⟩
      refine JW.steq (s2 := sS (sS (sS (sS (sA (sA (sA (sA (sA (sA (sA (sA (sA s 11 f_6) 12 f_7) 13 f_8) 14 f_9) 15 f_10) 16 f_11) 17 f_12) 18 f18) 19 f19) 0 0) 25 k_13) 33 k33) 34 k34) eq_17 ?_
      replace K := K r_16 q_17
      refine JW.istore_n (ls' := [(0, vR 351), (1, vI x1), (2, vI x2), (3, vI r_16)]) dX3_round_36 (Nat.le_of_ble_eq_true rfl) rfl ?_
      refine JW.iload_n dX3_round_37 rfl ?_
      refine JW.iconst dX3_round_38 rfl ?_
      refine JW.icmp_eq (tgt := 46) dX3_round_39 rfl (fun c_18 => ?_) (fun c_18 => ?_)
      · have K := K.1 c_18
        refine JW.iload_n dX3_round_46 rfl ?_
        exact JW.ireturn dX3_round_47 rfl rfl ⟨_, rfl, K⟩
      · have K := K.2 c_18
        refine JW.iload_n dX3_round_42 rfl ?_
        refine JW.if_ne (tgt := 48) dX3_round_43 rfl (fun c_19 => ?_) (fun c_19 => ?_)
        · have K := K.1 c_19
          refine JW.iload_n dX3_round_48 rfl ?_
          refine JW.iconst dX3_round_49 rfl ?_
          refine JW.icmp_ne (tgt := 60) dX3_round_50 rfl (fun c_20 => ?_) (fun c_20 => ?_)
          · have K := K.1 c_20
            refine JW.iconst dX3_round_60 rfl ?_
            refine JW.istore (ls' := [(0, vR 351), (1, vI x1), (2, vI x2), (3, vI r_16), (4, vI 0)]) dX3_round_61 (Nat.le_of_ble_eq_true rfl) rfl ?_
            refine JW.iconst dX3_round_63 rfl ?_
            refine JW.istore (ls' := [(0, vR 351), (1, vI x1), (2, vI x2), (3, vI r_16), (4, vI 0), (5, vI 0)]) dX3_round_64 (Nat.le_of_ble_eq_true rfl) rfl ?_
            refine JW.iconst dX3_round_66 rfl ?_
            refine JW.istore (ls' := [(0, vR 351), (1, vI x1), (2, vI x2), (3, vI r_16), (4, vI 0), (5, vI 0), (6, vI 0)]) dX3_round_67 (Nat.le_of_ble_eq_true rfl) rfl ?_
            exact JW.pick [0, 2, 3, 4, 5, 6] rfl K
          · have K := K.2 c_20
            refine JW.aload_n dX3_round_53 rfl ?_
            refine JW.mget (v := vR 368) dX3_round_54 fX3_65 rfl ?_
            refine JW.iload_n dX3_round_57 rfl ?_
            obtain ⟨o_21, K⟩ := K
            refine JW.mald 16 (x := (f_11 r_16)) dX3_round_58 (Nat.le_of_ble_eq_true rfl) rfl o_21.1 o_21.2 rfl ?_
            exact JW.ireturn dX3_round_59 rfl rfl ⟨_, rfl, K⟩
        · have K := K.2 c_19
          refine JW.iload_n dX3_round_46 rfl ?_
          exact JW.ireturn dX3_round_47 rfl rfl ⟨_, rfl, K⟩
    · have K := K.2 c_4
      refine JW.bipush dX3_round_24 rfl ?_
      exact JW.ireturn dX3_round_26 rfl rfl ⟨_, rfl, K⟩
theorem bX3_round_69 {Q : Option AV → MS → Prop} (b : AH) (s : MS) (x2 : Int) (x3 : Int) (x4 : Int) (x5 : Int) (x6 : Int) (f11 : Int → Int) (f12 : Int → Int) (f13 : Int → Int) (f14 : Int → Int) (f15 : Int → Int) (f16 : Int → Int) (f17 : Int → Int) (f18 : Int → Int) (f19 : Int → Int) (k0 : Int) (k25 : Int) (k33 : Int) (k34 : Int) (K : ((s.2 6 2) ≤ x6 → (¬ x2 = 2 → Q (some (vI x5)) (sS (sS (sS (sS (sA (sA (sA (sA (sA (sA (sA (sA (sA s 11 f11) 12 f12) 13 f13) 14 f14) 15 f15) 16 f16) 17 f17) 18 f18) 19 f19) 0 k0) 25 k25) 33 k33) 34 k34)) ∧ (x2 = 2 → Q (some (vI x4)) (sS (sS (sS (sS (sA (sA (sA (sA (sA (sA (sA (sA (sA s 11 f11) 12 f12) 13 f13) 14 f14) 15 f15) 16 f16) 17 f17) 18 f18) 19 f19) 0 k0) 25 k25) 33 k33) 34 k34))) ∧ (¬ (s.2 6 2) ≤ x6 → (0 ≤ x6 ∧ x6 < 10000) ∧ (((f15 x6) = x3 → ((f14 x6) ≤ x5 → HX3_round_69 Q b s x2 x3 (i32 (x4 + 1)) x5 (i32 (x6 + 1)) f11 f12 f13 f14 f15 f16 f17 f18 f19 k0 k25 k33 k34) ∧ (¬ (f14 x6) ≤ x5 → HX3_round_69 Q b s x2 x3 (i32 (x4 + 1)) (f14 x6) (i32 (x6 + 1)) f11 f12 f13 f14 f15 f16 f17 f18 f19 k0 k25 k33 k34)) ∧ (¬ (f15 x6) = x3 → HX3_round_69 Q b s x2 x3 x4 x5 (i32 (x6 + 1)) f11 f12 f13 f14 f15 f16 f17 f18 f19 k0 k25 k33 k34)))) : HX3_round_69 Q b s x2 x3 x4 x5 x6 f11 f12 f13 f14 f15 f16 f17 f18 f19 k0 k25 k33 k34 := by
  refine JW.iload dX3_round_69 rfl ?_
  refine JW.aload_n dX3_round_71 rfl ?_
  refine JW.mget (v := vR 358) dX3_round_72 fX3_34 rfl ?_
  refine JW.iconst dX3_round_75 rfl ?_
  refine JW.mald 6 (x := (s.2 6 2)) dX3_round_76 (Nat.le_of_ble_eq_true rfl) rfl (by decide) (by decide) rfl ?_
  refine JW.icmp_ge (tgt := 129) dX3_round_77 rfl (fun c_1 => ?_) (fun c_1 => ?_)
  · have K := K.1 c_1
    refine JW.iload_n dX3_round_129 rfl ?_
    refine JW.iconst dX3_round_130 rfl ?_
    refine JW.icmp_ne (tgt := 139) dX3_round_131 rfl (fun c_2 => ?_) (fun c_2 => ?_)
    · have K := K.1 c_2
      refine JW.iload dX3_round_139 rfl ?_
      exact JW.ireturn dX3_round_141 rfl rfl ⟨_, rfl, K⟩
    · have K := K.2 c_2
      refine JW.iload dX3_round_134 rfl ?_
      refine JW.goto (tgt := 141) dX3_round_136 rfl ?_
      exact JW.ireturn dX3_round_141 rfl rfl ⟨_, rfl, K⟩
  · have K := K.2 c_1
    refine JW.aload_n dX3_round_80 rfl ?_
    refine JW.mget (v := vR 367) dX3_round_81 fX3_62 rfl ?_
    refine JW.iload dX3_round_84 rfl ?_
    obtain ⟨o_3, K⟩ := K
    refine JW.mald 15 (x := (f15 x6)) dX3_round_86 (Nat.le_of_ble_eq_true rfl) rfl o_3.1 o_3.2 rfl ?_
    refine JW.iload_n dX3_round_87 rfl ?_
    refine JW.icmp_eq (tgt := 94) dX3_round_88 rfl (fun c_4 => ?_) (fun c_4 => ?_)
    · have K := K.1 c_4
      refine JW.iinc (ls' := [(0, vR 351), (2, vI x2), (3, vI x3), (4, vI (i32 (x4 + 1))), (5, vI x5), (6, vI x6)]) dX3_round_94 (Nat.le_of_ble_eq_true rfl) rfl rfl ?_
      refine JW.aload_n dX3_round_97 rfl ?_
      refine JW.mget (v := vR 366) dX3_round_98 fX3_59 rfl ?_
      refine JW.iload dX3_round_101 rfl ?_
      refine JW.mald 14 (x := (f14 x6)) dX3_round_103 (Nat.le_of_ble_eq_true rfl) rfl o_3.1 o_3.2 rfl ?_
      refine JW.iload dX3_round_104 rfl ?_
      refine JW.icmp_le (tgt := 119) dX3_round_106 rfl (fun c_5 => ?_) (fun c_5 => ?_)
      · have K := K.1 c_5
        refine JW.iload dX3_round_119 rfl ?_
        refine JW.istore (ls' := [(0, vR 351), (2, vI x2), (3, vI x3), (4, vI (i32 (x4 + 1))), (5, vI x5), (6, vI x6)]) dX3_round_121 (Nat.le_of_ble_eq_true rfl) rfl ?_
        refine JW.iinc (ls' := [(0, vR 351), (2, vI x2), (3, vI x3), (4, vI (i32 (x4 + 1))), (5, vI x5), (6, vI (i32 (x6 + 1)))]) dX3_round_123 (Nat.le_of_ble_eq_true rfl) rfl rfl ?_
        refine JW.goto (tgt := 69) dX3_round_126 rfl ?_
        exact JW.pick [0, 2, 3, 4, 5, 6] rfl K
      · have K := K.2 c_5
        refine JW.aload_n dX3_round_109 rfl ?_
        refine JW.mget (v := vR 366) dX3_round_110 fX3_59 rfl ?_
        refine JW.iload dX3_round_113 rfl ?_
        refine JW.mald 14 (x := (f14 x6)) dX3_round_115 (Nat.le_of_ble_eq_true rfl) rfl o_3.1 o_3.2 rfl ?_
        refine JW.goto (tgt := 121) dX3_round_116 rfl ?_
        refine JW.istore (ls' := [(0, vR 351), (2, vI x2), (3, vI x3), (4, vI (i32 (x4 + 1))), (5, vI (f14 x6)), (6, vI x6)]) dX3_round_121 (Nat.le_of_ble_eq_true rfl) rfl ?_
        refine JW.iinc (ls' := [(0, vR 351), (2, vI x2), (3, vI x3), (4, vI (i32 (x4 + 1))), (5, vI (f14 x6)), (6, vI (i32 (x6 + 1)))]) dX3_round_123 (Nat.le_of_ble_eq_true rfl) rfl rfl ?_
        refine JW.goto (tgt := 69) dX3_round_126 rfl ?_
        exact JW.pick [0, 2, 3, 4, 5, 6] rfl K
    · have K := K.2 c_4
      refine JW.goto (tgt := 123) dX3_round_91 rfl ?_
      refine JW.iinc (ls' := [(0, vR 351), (2, vI x2), (3, vI x3), (4, vI x4), (5, vI x5), (6, vI (i32 (x6 + 1)))]) dX3_round_123 (Nat.le_of_ble_eq_true rfl) rfl rfl ?_
      refine JW.goto (tgt := 69) dX3_round_126 rfl ?_
      exact JW.pick [0, 2, 3, 4, 5, 6] rfl K
def QX3_round (s : MS) (a1 : Int) (a2 : Int) : Option AV → MS → Prop := fun v s' => ∃ (f11 : Int → Int) (f12 : Int → Int) (f13 : Int → Int) (f14 : Int → Int) (f15 : Int → Int) (f16 : Int → Int) (f17 : Int → Int) (f18 : Int → Int) (f19 : Int → Int) (k25 : Int) (k33 : Int) (k34 : Int), v = some (vI (rRound ((s.2 5) 0) (s.2 6) (s.2 7) a1 a2)) ∧ s' = sS (sS (sS (sS (sA (sA (sA (sA (sA (sA (sA (sA (sA s 11 f11) 12 f12) 13 f13) 14 f14) 15 f15) 16 f16) 17 f17) 18 f18) 19 f19) 0 (0)) 25 k25) 33 k33) 34 k34
theorem vX3_round_1 (s : MS) (a1 : Int) (a2 : Int) (hp : tOK (s.2 6) ∧ aOK (s.2 6) (s.2 7) ∧ lOK ((s.2 5) 0) (s.2 6) ∧ (-2147483648 ≤ a1 ∧ a1 < 2147483648)) (x2 : Int) (x3 : Int) (x4 : Int) (x5 : Int) (x6 : Int) (f11 : Int → Int) (f12 : Int → Int) (f13 : Int → Int) (f14 : Int → Int) (f15 : Int → Int) (f16 : Int → Int) (f17 : Int → Int) (f18 : Int → Int) (f19 : Int → Int) (k0 : Int) (k25 : Int) (k33 : Int) (k34 : Int) (hI : k0 = 0 ∧ GO (s.2 6) (s.2 7) f13 f14 f15 f16 ∧ (0 < s.2 5 0 ∧ x2 = a2 ∧ 2 ≤ a2 ∧ a2 ≤ 3) ∧ (0 ≤ x6 ∧ x6 ≤ s.2 6 2) ∧ (x3 = homeN (nx (s.2 6) (s.2 7)) (s.2 6 2) a1 ∧ x3 ≠ -1) ∧ x4 = many (fun x => hm (nx (s.2 6) (s.2 7)) x = x3) x6.toNat ∧ x5 = maxI 0 (hTl (nx (s.2 6) (s.2 7)) x3) x6.toNat) (c_1 : (s.2 6 2) ≤ x6) (c_2 : ¬ x2 = 2) : k0 = (0) := by
  obtain ⟨ht, ha, hl, hi⟩ := hp
  have hN := tOK_N ht
  have hg := nx_rng (s.2 6) (s.2 7)
  (try simp only [bI_0, bI_n, Classical.not_not] at *)
  (try have hq := ‹GO (s.2 6) (s.2 7) _ _ _ _›)
  (try have hq := hI.2.1)
  (try have hx := GO_at hq (x := a1) (by omega) (by omega))
  (try have hN2 : 0 < s.2 6 2 := lOK_N ht hl (by omega))
  (try have hy := GO_at hq (x := x6) (by omega) (by omega))
  (try have hh := GO_home hq (by assumption))
  (try have hb := many_b (fun x => hm (nx (s.2 6) (s.2 7)) x = x3) x6.toNat)
  (try have hm1 := max_hit (lo := 0) (f := hTl (nx (s.2 6) (s.2 7)) x3) (k := x6) (by omega))
  (try have hm2 := max_not (lo := 0) (f := hTl (nx (s.2 6) (s.2 7)) x3) (k := x6) (by omega))
  (try have hm3 := max_lo 0 (hTl (nx (s.2 6) (s.2 7)) x3) x6.toNat)
  (try unfold lex3)
  (try simp only [bI_0, bI_n, Classical.not_not] at *)
  (try simp (disch := omega) only [i32_id] at *)
  first | done | omega | ((repeat' (with_reducible apply And.intro)) <;> first | assumption | rfl | omega | (exact hI.1) | (exact hI.2.1) | (exact hq) | (unfold rRound; rw [if_neg (by omega)]) | (unfold rRound; rw [if_pos (by omega), if_pos (by omega)]; omega) | (unfold rRound; rw [if_pos (by omega), if_neg (by omega), if_pos (by omega), ← hh.1]; exact (hh.2.resolve_left (by omega)).2.2) | (exact hh.1) | (unfold rRound; rw [if_pos (by omega), if_neg (by omega), if_neg (by omega), if_pos (by omega), ← hI.2.2.2.2.1.1, hI.2.2.2.2.2.1, show x6 = s.2 6 2 by omega]) | (unfold rRound; rw [if_pos (by omega), if_neg (by omega), if_neg (by omega), if_neg (by omega), ← hI.2.2.2.2.1.1, hI.2.2.2.2.2.2, show x6 = s.2 6 2 by omega]) | (have e9 : hTl (nx (s.2 6) (s.2 7)) x3 x6 = tl (nx (s.2 6) (s.2 7)) x6 := hTl_y (by rw [← hy.2.1.1]; assumption); omega) | (have e9 : hTl (nx (s.2 6) (s.2 7)) x3 x6 = 0 := hTl_n (by rw [← hy.2.1.1]; assumption); omega) | (have h9 := many_t (p := fun x => hm (nx (s.2 6) (s.2 7)) x = x3) (k := x6) (by omega) (by rw [← hy.2.1.1]; assumption); omega) | (have h9 := many_f (p := fun x => hm (nx (s.2 6) (s.2 7)) x = x3) (k := x6) (by omega) (by rw [← hy.2.1.1]; assumption); omega) | (have h9 : many (fun x => hm (nx (s.2 6) (s.2 7)) x = x3) (0 : Int).toNat = 0 := rfl; omega) | grind [upI])
theorem vX3_round_2 (s : MS) (a1 : Int) (a2 : Int) (hp : tOK (s.2 6) ∧ aOK (s.2 6) (s.2 7) ∧ lOK ((s.2 5) 0) (s.2 6) ∧ (-2147483648 ≤ a1 ∧ a1 < 2147483648)) (x2 : Int) (x3 : Int) (x4 : Int) (x5 : Int) (x6 : Int) (f11 : Int → Int) (f12 : Int → Int) (f13 : Int → Int) (f14 : Int → Int) (f15 : Int → Int) (f16 : Int → Int) (f17 : Int → Int) (f18 : Int → Int) (f19 : Int → Int) (k0 : Int) (k25 : Int) (k33 : Int) (k34 : Int) (hI : k0 = 0 ∧ GO (s.2 6) (s.2 7) f13 f14 f15 f16 ∧ (0 < s.2 5 0 ∧ x2 = a2 ∧ 2 ≤ a2 ∧ a2 ≤ 3) ∧ (0 ≤ x6 ∧ x6 ≤ s.2 6 2) ∧ (x3 = homeN (nx (s.2 6) (s.2 7)) (s.2 6 2) a1 ∧ x3 ≠ -1) ∧ x4 = many (fun x => hm (nx (s.2 6) (s.2 7)) x = x3) x6.toNat ∧ x5 = maxI 0 (hTl (nx (s.2 6) (s.2 7)) x3) x6.toNat) (c_1 : (s.2 6 2) ≤ x6) (c_2 : ¬ x2 = 2) : x5 = (rRound ((s.2 5) 0) (s.2 6) (s.2 7) a1 a2) := by
  obtain ⟨ht, ha, hl, hi⟩ := hp
  have hN := tOK_N ht
  have hg := nx_rng (s.2 6) (s.2 7)
  (try simp only [bI_0, bI_n, Classical.not_not] at *)
  (try have hq := ‹GO (s.2 6) (s.2 7) _ _ _ _›)
  (try have hq := hI.2.1)
  (try have hx := GO_at hq (x := a1) (by omega) (by omega))
  (try have hN2 : 0 < s.2 6 2 := lOK_N ht hl (by omega))
  (try have hy := GO_at hq (x := x6) (by omega) (by omega))
  (try have hh := GO_home hq (by assumption))
  (try have hb := many_b (fun x => hm (nx (s.2 6) (s.2 7)) x = x3) x6.toNat)
  (try have hm1 := max_hit (lo := 0) (f := hTl (nx (s.2 6) (s.2 7)) x3) (k := x6) (by omega))
  (try have hm2 := max_not (lo := 0) (f := hTl (nx (s.2 6) (s.2 7)) x3) (k := x6) (by omega))
  (try have hm3 := max_lo 0 (hTl (nx (s.2 6) (s.2 7)) x3) x6.toNat)
  (try unfold lex3)
  (try simp only [bI_0, bI_n, Classical.not_not] at *)
  (try simp (disch := omega) only [i32_id] at *)
  first | done | omega | ((repeat' (with_reducible apply And.intro)) <;> first | assumption | rfl | omega | (exact hI.1) | (exact hI.2.1) | (exact hq) | (unfold rRound; rw [if_neg (by omega)]) | (unfold rRound; rw [if_pos (by omega), if_pos (by omega)]; omega) | (unfold rRound; rw [if_pos (by omega), if_neg (by omega), if_pos (by omega), ← hh.1]; exact (hh.2.resolve_left (by omega)).2.2) | (exact hh.1) | (unfold rRound; rw [if_pos (by omega), if_neg (by omega), if_neg (by omega), if_pos (by omega), ← hI.2.2.2.2.1.1, hI.2.2.2.2.2.1, show x6 = s.2 6 2 by omega]) | (unfold rRound; rw [if_pos (by omega), if_neg (by omega), if_neg (by omega), if_neg (by omega), ← hI.2.2.2.2.1.1, hI.2.2.2.2.2.2, show x6 = s.2 6 2 by omega]) | (have e9 : hTl (nx (s.2 6) (s.2 7)) x3 x6 = tl (nx (s.2 6) (s.2 7)) x6 := hTl_y (by rw [← hy.2.1.1]; assumption); omega) | (have e9 : hTl (nx (s.2 6) (s.2 7)) x3 x6 = 0 := hTl_n (by rw [← hy.2.1.1]; assumption); omega) | (have h9 := many_t (p := fun x => hm (nx (s.2 6) (s.2 7)) x = x3) (k := x6) (by omega) (by rw [← hy.2.1.1]; assumption); omega) | (have h9 := many_f (p := fun x => hm (nx (s.2 6) (s.2 7)) x = x3) (k := x6) (by omega) (by rw [← hy.2.1.1]; assumption); omega) | (have h9 : many (fun x => hm (nx (s.2 6) (s.2 7)) x = x3) (0 : Int).toNat = 0 := rfl; omega) | grind [upI])
theorem vX3_round_3 (s : MS) (a1 : Int) (a2 : Int) (hp : tOK (s.2 6) ∧ aOK (s.2 6) (s.2 7) ∧ lOK ((s.2 5) 0) (s.2 6) ∧ (-2147483648 ≤ a1 ∧ a1 < 2147483648)) (x2 : Int) (x3 : Int) (x4 : Int) (x5 : Int) (x6 : Int) (f11 : Int → Int) (f12 : Int → Int) (f13 : Int → Int) (f14 : Int → Int) (f15 : Int → Int) (f16 : Int → Int) (f17 : Int → Int) (f18 : Int → Int) (f19 : Int → Int) (k0 : Int) (k25 : Int) (k33 : Int) (k34 : Int) (hI : k0 = 0 ∧ GO (s.2 6) (s.2 7) f13 f14 f15 f16 ∧ (0 < s.2 5 0 ∧ x2 = a2 ∧ 2 ≤ a2 ∧ a2 ≤ 3) ∧ (0 ≤ x6 ∧ x6 ≤ s.2 6 2) ∧ (x3 = homeN (nx (s.2 6) (s.2 7)) (s.2 6 2) a1 ∧ x3 ≠ -1) ∧ x4 = many (fun x => hm (nx (s.2 6) (s.2 7)) x = x3) x6.toNat ∧ x5 = maxI 0 (hTl (nx (s.2 6) (s.2 7)) x3) x6.toNat) (c_1 : (s.2 6 2) ≤ x6) (c_2 : x2 = 2) : k0 = (0) := by
  obtain ⟨ht, ha, hl, hi⟩ := hp
  have hN := tOK_N ht
  have hg := nx_rng (s.2 6) (s.2 7)
  (try simp only [bI_0, bI_n, Classical.not_not] at *)
  (try have hq := ‹GO (s.2 6) (s.2 7) _ _ _ _›)
  (try have hq := hI.2.1)
  (try have hx := GO_at hq (x := a1) (by omega) (by omega))
  (try have hN2 : 0 < s.2 6 2 := lOK_N ht hl (by omega))
  (try have hy := GO_at hq (x := x6) (by omega) (by omega))
  (try have hh := GO_home hq (by assumption))
  (try have hb := many_b (fun x => hm (nx (s.2 6) (s.2 7)) x = x3) x6.toNat)
  (try have hm1 := max_hit (lo := 0) (f := hTl (nx (s.2 6) (s.2 7)) x3) (k := x6) (by omega))
  (try have hm2 := max_not (lo := 0) (f := hTl (nx (s.2 6) (s.2 7)) x3) (k := x6) (by omega))
  (try have hm3 := max_lo 0 (hTl (nx (s.2 6) (s.2 7)) x3) x6.toNat)
  (try unfold lex3)
  (try simp only [bI_0, bI_n, Classical.not_not] at *)
  (try simp (disch := omega) only [i32_id] at *)
  first | done | omega | ((repeat' (with_reducible apply And.intro)) <;> first | assumption | rfl | omega | (exact hI.1) | (exact hI.2.1) | (exact hq) | (unfold rRound; rw [if_neg (by omega)]) | (unfold rRound; rw [if_pos (by omega), if_pos (by omega)]; omega) | (unfold rRound; rw [if_pos (by omega), if_neg (by omega), if_pos (by omega), ← hh.1]; exact (hh.2.resolve_left (by omega)).2.2) | (exact hh.1) | (unfold rRound; rw [if_pos (by omega), if_neg (by omega), if_neg (by omega), if_pos (by omega), ← hI.2.2.2.2.1.1, hI.2.2.2.2.2.1, show x6 = s.2 6 2 by omega]) | (unfold rRound; rw [if_pos (by omega), if_neg (by omega), if_neg (by omega), if_neg (by omega), ← hI.2.2.2.2.1.1, hI.2.2.2.2.2.2, show x6 = s.2 6 2 by omega]) | (have e9 : hTl (nx (s.2 6) (s.2 7)) x3 x6 = tl (nx (s.2 6) (s.2 7)) x6 := hTl_y (by rw [← hy.2.1.1]; assumption); omega) | (have e9 : hTl (nx (s.2 6) (s.2 7)) x3 x6 = 0 := hTl_n (by rw [← hy.2.1.1]; assumption); omega) | (have h9 := many_t (p := fun x => hm (nx (s.2 6) (s.2 7)) x = x3) (k := x6) (by omega) (by rw [← hy.2.1.1]; assumption); omega) | (have h9 := many_f (p := fun x => hm (nx (s.2 6) (s.2 7)) x = x3) (k := x6) (by omega) (by rw [← hy.2.1.1]; assumption); omega) | (have h9 : many (fun x => hm (nx (s.2 6) (s.2 7)) x = x3) (0 : Int).toNat = 0 := rfl; omega) | grind [upI])
theorem vX3_round_4 (s : MS) (a1 : Int) (a2 : Int) (hp : tOK (s.2 6) ∧ aOK (s.2 6) (s.2 7) ∧ lOK ((s.2 5) 0) (s.2 6) ∧ (-2147483648 ≤ a1 ∧ a1 < 2147483648)) (x2 : Int) (x3 : Int) (x4 : Int) (x5 : Int) (x6 : Int) (f11 : Int → Int) (f12 : Int → Int) (f13 : Int → Int) (f14 : Int → Int) (f15 : Int → Int) (f16 : Int → Int) (f17 : Int → Int) (f18 : Int → Int) (f19 : Int → Int) (k0 : Int) (k25 : Int) (k33 : Int) (k34 : Int) (hI : k0 = 0 ∧ GO (s.2 6) (s.2 7) f13 f14 f15 f16 ∧ (0 < s.2 5 0 ∧ x2 = a2 ∧ 2 ≤ a2 ∧ a2 ≤ 3) ∧ (0 ≤ x6 ∧ x6 ≤ s.2 6 2) ∧ (x3 = homeN (nx (s.2 6) (s.2 7)) (s.2 6 2) a1 ∧ x3 ≠ -1) ∧ x4 = many (fun x => hm (nx (s.2 6) (s.2 7)) x = x3) x6.toNat ∧ x5 = maxI 0 (hTl (nx (s.2 6) (s.2 7)) x3) x6.toNat) (c_1 : (s.2 6 2) ≤ x6) (c_2 : x2 = 2) : x4 = (rRound ((s.2 5) 0) (s.2 6) (s.2 7) a1 a2) := by
  obtain ⟨ht, ha, hl, hi⟩ := hp
  have hN := tOK_N ht
  have hg := nx_rng (s.2 6) (s.2 7)
  (try simp only [bI_0, bI_n, Classical.not_not] at *)
  (try have hq := ‹GO (s.2 6) (s.2 7) _ _ _ _›)
  (try have hq := hI.2.1)
  (try have hx := GO_at hq (x := a1) (by omega) (by omega))
  (try have hN2 : 0 < s.2 6 2 := lOK_N ht hl (by omega))
  (try have hy := GO_at hq (x := x6) (by omega) (by omega))
  (try have hh := GO_home hq (by assumption))
  (try have hb := many_b (fun x => hm (nx (s.2 6) (s.2 7)) x = x3) x6.toNat)
  (try have hm1 := max_hit (lo := 0) (f := hTl (nx (s.2 6) (s.2 7)) x3) (k := x6) (by omega))
  (try have hm2 := max_not (lo := 0) (f := hTl (nx (s.2 6) (s.2 7)) x3) (k := x6) (by omega))
  (try have hm3 := max_lo 0 (hTl (nx (s.2 6) (s.2 7)) x3) x6.toNat)
  (try unfold lex3)
  (try simp only [bI_0, bI_n, Classical.not_not] at *)
  (try simp (disch := omega) only [i32_id] at *)
  first | done | omega | ((repeat' (with_reducible apply And.intro)) <;> first | assumption | rfl | omega | (exact hI.1) | (exact hI.2.1) | (exact hq) | (unfold rRound; rw [if_neg (by omega)]) | (unfold rRound; rw [if_pos (by omega), if_pos (by omega)]; omega) | (unfold rRound; rw [if_pos (by omega), if_neg (by omega), if_pos (by omega), ← hh.1]; exact (hh.2.resolve_left (by omega)).2.2) | (exact hh.1) | (unfold rRound; rw [if_pos (by omega), if_neg (by omega), if_neg (by omega), if_pos (by omega), ← hI.2.2.2.2.1.1, hI.2.2.2.2.2.1, show x6 = s.2 6 2 by omega]) | (unfold rRound; rw [if_pos (by omega), if_neg (by omega), if_neg (by omega), if_neg (by omega), ← hI.2.2.2.2.1.1, hI.2.2.2.2.2.2, show x6 = s.2 6 2 by omega]) | (have e9 : hTl (nx (s.2 6) (s.2 7)) x3 x6 = tl (nx (s.2 6) (s.2 7)) x6 := hTl_y (by rw [← hy.2.1.1]; assumption); omega) | (have e9 : hTl (nx (s.2 6) (s.2 7)) x3 x6 = 0 := hTl_n (by rw [← hy.2.1.1]; assumption); omega) | (have h9 := many_t (p := fun x => hm (nx (s.2 6) (s.2 7)) x = x3) (k := x6) (by omega) (by rw [← hy.2.1.1]; assumption); omega) | (have h9 := many_f (p := fun x => hm (nx (s.2 6) (s.2 7)) x = x3) (k := x6) (by omega) (by rw [← hy.2.1.1]; assumption); omega) | (have h9 : many (fun x => hm (nx (s.2 6) (s.2 7)) x = x3) (0 : Int).toNat = 0 := rfl; omega) | grind [upI])
theorem vX3_round_5 (s : MS) (a1 : Int) (a2 : Int) (hp : tOK (s.2 6) ∧ aOK (s.2 6) (s.2 7) ∧ lOK ((s.2 5) 0) (s.2 6) ∧ (-2147483648 ≤ a1 ∧ a1 < 2147483648)) (x2 : Int) (x3 : Int) (x4 : Int) (x5 : Int) (x6 : Int) (f11 : Int → Int) (f12 : Int → Int) (f13 : Int → Int) (f14 : Int → Int) (f15 : Int → Int) (f16 : Int → Int) (f17 : Int → Int) (f18 : Int → Int) (f19 : Int → Int) (k0 : Int) (k25 : Int) (k33 : Int) (k34 : Int) (hI : k0 = 0 ∧ GO (s.2 6) (s.2 7) f13 f14 f15 f16 ∧ (0 < s.2 5 0 ∧ x2 = a2 ∧ 2 ≤ a2 ∧ a2 ≤ 3) ∧ (0 ≤ x6 ∧ x6 ≤ s.2 6 2) ∧ (x3 = homeN (nx (s.2 6) (s.2 7)) (s.2 6 2) a1 ∧ x3 ≠ -1) ∧ x4 = many (fun x => hm (nx (s.2 6) (s.2 7)) x = x3) x6.toNat ∧ x5 = maxI 0 (hTl (nx (s.2 6) (s.2 7)) x3) x6.toNat) (c_1 : ¬ (s.2 6 2) ≤ x6) : (0 ≤ x6 ∧ x6 < 10000) := by
  obtain ⟨ht, ha, hl, hi⟩ := hp
  have hN := tOK_N ht
  have hg := nx_rng (s.2 6) (s.2 7)
  (try simp only [bI_0, bI_n, Classical.not_not] at *)
  (try have hq := ‹GO (s.2 6) (s.2 7) _ _ _ _›)
  (try have hq := hI.2.1)
  (try have hx := GO_at hq (x := a1) (by omega) (by omega))
  (try have hN2 : 0 < s.2 6 2 := lOK_N ht hl (by omega))
  (try have hy := GO_at hq (x := x6) (by omega) (by omega))
  (try have hh := GO_home hq (by assumption))
  (try have hb := many_b (fun x => hm (nx (s.2 6) (s.2 7)) x = x3) x6.toNat)
  (try have hm1 := max_hit (lo := 0) (f := hTl (nx (s.2 6) (s.2 7)) x3) (k := x6) (by omega))
  (try have hm2 := max_not (lo := 0) (f := hTl (nx (s.2 6) (s.2 7)) x3) (k := x6) (by omega))
  (try have hm3 := max_lo 0 (hTl (nx (s.2 6) (s.2 7)) x3) x6.toNat)
  (try unfold lex3)
  (try simp only [bI_0, bI_n, Classical.not_not] at *)
  (try simp (disch := omega) only [i32_id] at *)
  first | done | omega | ((repeat' (with_reducible apply And.intro)) <;> first | assumption | rfl | omega | (exact hI.1) | (exact hI.2.1) | (exact hq) | (unfold rRound; rw [if_neg (by omega)]) | (unfold rRound; rw [if_pos (by omega), if_pos (by omega)]; omega) | (unfold rRound; rw [if_pos (by omega), if_neg (by omega), if_pos (by omega), ← hh.1]; exact (hh.2.resolve_left (by omega)).2.2) | (exact hh.1) | (unfold rRound; rw [if_pos (by omega), if_neg (by omega), if_neg (by omega), if_pos (by omega), ← hI.2.2.2.2.1.1, hI.2.2.2.2.2.1, show x6 = s.2 6 2 by omega]) | (unfold rRound; rw [if_pos (by omega), if_neg (by omega), if_neg (by omega), if_neg (by omega), ← hI.2.2.2.2.1.1, hI.2.2.2.2.2.2, show x6 = s.2 6 2 by omega]) | (have e9 : hTl (nx (s.2 6) (s.2 7)) x3 x6 = tl (nx (s.2 6) (s.2 7)) x6 := hTl_y (by rw [← hy.2.1.1]; assumption); omega) | (have e9 : hTl (nx (s.2 6) (s.2 7)) x3 x6 = 0 := hTl_n (by rw [← hy.2.1.1]; assumption); omega) | (have h9 := many_t (p := fun x => hm (nx (s.2 6) (s.2 7)) x = x3) (k := x6) (by omega) (by rw [← hy.2.1.1]; assumption); omega) | (have h9 := many_f (p := fun x => hm (nx (s.2 6) (s.2 7)) x = x3) (k := x6) (by omega) (by rw [← hy.2.1.1]; assumption); omega) | (have h9 : many (fun x => hm (nx (s.2 6) (s.2 7)) x = x3) (0 : Int).toNat = 0 := rfl; omega) | grind [upI])
theorem vX3_round_6 (s : MS) (a1 : Int) (a2 : Int) (hp : tOK (s.2 6) ∧ aOK (s.2 6) (s.2 7) ∧ lOK ((s.2 5) 0) (s.2 6) ∧ (-2147483648 ≤ a1 ∧ a1 < 2147483648)) (x2 : Int) (x3 : Int) (x4 : Int) (x5 : Int) (x6 : Int) (f11 : Int → Int) (f12 : Int → Int) (f13 : Int → Int) (f14 : Int → Int) (f15 : Int → Int) (f16 : Int → Int) (f17 : Int → Int) (f18 : Int → Int) (f19 : Int → Int) (k0 : Int) (k25 : Int) (k33 : Int) (k34 : Int) (hI : k0 = 0 ∧ GO (s.2 6) (s.2 7) f13 f14 f15 f16 ∧ (0 < s.2 5 0 ∧ x2 = a2 ∧ 2 ≤ a2 ∧ a2 ≤ 3) ∧ (0 ≤ x6 ∧ x6 ≤ s.2 6 2) ∧ (x3 = homeN (nx (s.2 6) (s.2 7)) (s.2 6 2) a1 ∧ x3 ≠ -1) ∧ x4 = many (fun x => hm (nx (s.2 6) (s.2 7)) x = x3) x6.toNat ∧ x5 = maxI 0 (hTl (nx (s.2 6) (s.2 7)) x3) x6.toNat) (c_1 : ¬ (s.2 6 2) ≤ x6) (o_3 : (0 ≤ x6 ∧ x6 < 10000)) (c_4 : (f15 x6) = x3) (c_5 : (f14 x6) ≤ x5) : k0 = 0 ∧ GO (s.2 6) (s.2 7) f13 f14 f15 f16 ∧ (0 < s.2 5 0 ∧ x2 = a2 ∧ 2 ≤ a2 ∧ a2 ≤ 3) ∧ (0 ≤ (i32 (x6 + 1)) ∧ (i32 (x6 + 1)) ≤ s.2 6 2) ∧ (x3 = homeN (nx (s.2 6) (s.2 7)) (s.2 6 2) a1 ∧ x3 ≠ -1) ∧ (i32 (x4 + 1)) = many (fun x => hm (nx (s.2 6) (s.2 7)) x = x3) (i32 (x6 + 1)).toNat ∧ x5 = maxI 0 (hTl (nx (s.2 6) (s.2 7)) x3) (i32 (x6 + 1)).toNat := by
  obtain ⟨ht, ha, hl, hi⟩ := hp
  have hN := tOK_N ht
  have hg := nx_rng (s.2 6) (s.2 7)
  (try simp only [bI_0, bI_n, Classical.not_not] at *)
  (try have hq := ‹GO (s.2 6) (s.2 7) _ _ _ _›)
  (try have hq := hI.2.1)
  (try have hx := GO_at hq (x := a1) (by omega) (by omega))
  (try have hN2 : 0 < s.2 6 2 := lOK_N ht hl (by omega))
  (try have hy := GO_at hq (x := x6) (by omega) (by omega))
  (try have hh := GO_home hq (by assumption))
  (try have hb := many_b (fun x => hm (nx (s.2 6) (s.2 7)) x = x3) x6.toNat)
  (try have hm1 := max_hit (lo := 0) (f := hTl (nx (s.2 6) (s.2 7)) x3) (k := x6) (by omega))
  (try have hm2 := max_not (lo := 0) (f := hTl (nx (s.2 6) (s.2 7)) x3) (k := x6) (by omega))
  (try have hm3 := max_lo 0 (hTl (nx (s.2 6) (s.2 7)) x3) x6.toNat)
  (try unfold lex3)
  (try simp only [bI_0, bI_n, Classical.not_not] at *)
  (try simp (disch := omega) only [i32_id] at *)
  first | done | omega | ((repeat' (with_reducible apply And.intro)) <;> first | assumption | rfl | omega | (exact hI.1) | (exact hI.2.1) | (exact hq) | (unfold rRound; rw [if_neg (by omega)]) | (unfold rRound; rw [if_pos (by omega), if_pos (by omega)]; omega) | (unfold rRound; rw [if_pos (by omega), if_neg (by omega), if_pos (by omega), ← hh.1]; exact (hh.2.resolve_left (by omega)).2.2) | (exact hh.1) | (unfold rRound; rw [if_pos (by omega), if_neg (by omega), if_neg (by omega), if_pos (by omega), ← hI.2.2.2.2.1.1, hI.2.2.2.2.2.1, show x6 = s.2 6 2 by omega]) | (unfold rRound; rw [if_pos (by omega), if_neg (by omega), if_neg (by omega), if_neg (by omega), ← hI.2.2.2.2.1.1, hI.2.2.2.2.2.2, show x6 = s.2 6 2 by omega]) | (have e9 : hTl (nx (s.2 6) (s.2 7)) x3 x6 = tl (nx (s.2 6) (s.2 7)) x6 := hTl_y (by rw [← hy.2.1.1]; assumption); omega) | (have e9 : hTl (nx (s.2 6) (s.2 7)) x3 x6 = 0 := hTl_n (by rw [← hy.2.1.1]; assumption); omega) | (have h9 := many_t (p := fun x => hm (nx (s.2 6) (s.2 7)) x = x3) (k := x6) (by omega) (by rw [← hy.2.1.1]; assumption); omega) | (have h9 := many_f (p := fun x => hm (nx (s.2 6) (s.2 7)) x = x3) (k := x6) (by omega) (by rw [← hy.2.1.1]; assumption); omega) | (have h9 : many (fun x => hm (nx (s.2 6) (s.2 7)) x = x3) (0 : Int).toNat = 0 := rfl; omega) | grind [upI])
theorem vX3_round_7 (s : MS) (a1 : Int) (a2 : Int) (hp : tOK (s.2 6) ∧ aOK (s.2 6) (s.2 7) ∧ lOK ((s.2 5) 0) (s.2 6) ∧ (-2147483648 ≤ a1 ∧ a1 < 2147483648)) (x2 : Int) (x3 : Int) (x4 : Int) (x5 : Int) (x6 : Int) (f11 : Int → Int) (f12 : Int → Int) (f13 : Int → Int) (f14 : Int → Int) (f15 : Int → Int) (f16 : Int → Int) (f17 : Int → Int) (f18 : Int → Int) (f19 : Int → Int) (k0 : Int) (k25 : Int) (k33 : Int) (k34 : Int) (hI : k0 = 0 ∧ GO (s.2 6) (s.2 7) f13 f14 f15 f16 ∧ (0 < s.2 5 0 ∧ x2 = a2 ∧ 2 ≤ a2 ∧ a2 ≤ 3) ∧ (0 ≤ x6 ∧ x6 ≤ s.2 6 2) ∧ (x3 = homeN (nx (s.2 6) (s.2 7)) (s.2 6 2) a1 ∧ x3 ≠ -1) ∧ x4 = many (fun x => hm (nx (s.2 6) (s.2 7)) x = x3) x6.toNat ∧ x5 = maxI 0 (hTl (nx (s.2 6) (s.2 7)) x3) x6.toNat) (c_1 : ¬ (s.2 6 2) ≤ x6) (o_3 : (0 ≤ x6 ∧ x6 < 10000)) (c_4 : (f15 x6) = x3) (c_5 : (f14 x6) ≤ x5) : lex3 0 0 ((s.2 6 2 - (i32 (x6 + 1))).toNat) 0 0 ((s.2 6 2 - x6).toNat) := by
  obtain ⟨ht, ha, hl, hi⟩ := hp
  have hN := tOK_N ht
  have hg := nx_rng (s.2 6) (s.2 7)
  (try simp only [bI_0, bI_n, Classical.not_not] at *)
  (try have hq := ‹GO (s.2 6) (s.2 7) _ _ _ _›)
  (try have hq := hI.2.1)
  (try have hx := GO_at hq (x := a1) (by omega) (by omega))
  (try have hN2 : 0 < s.2 6 2 := lOK_N ht hl (by omega))
  (try have hy := GO_at hq (x := x6) (by omega) (by omega))
  (try have hh := GO_home hq (by assumption))
  (try have hb := many_b (fun x => hm (nx (s.2 6) (s.2 7)) x = x3) x6.toNat)
  (try have hm1 := max_hit (lo := 0) (f := hTl (nx (s.2 6) (s.2 7)) x3) (k := x6) (by omega))
  (try have hm2 := max_not (lo := 0) (f := hTl (nx (s.2 6) (s.2 7)) x3) (k := x6) (by omega))
  (try have hm3 := max_lo 0 (hTl (nx (s.2 6) (s.2 7)) x3) x6.toNat)
  (try unfold lex3)
  (try simp only [bI_0, bI_n, Classical.not_not] at *)
  (try simp (disch := omega) only [i32_id] at *)
  first | done | omega | ((repeat' (with_reducible apply And.intro)) <;> first | assumption | rfl | omega | (exact hI.1) | (exact hI.2.1) | (exact hq) | (unfold rRound; rw [if_neg (by omega)]) | (unfold rRound; rw [if_pos (by omega), if_pos (by omega)]; omega) | (unfold rRound; rw [if_pos (by omega), if_neg (by omega), if_pos (by omega), ← hh.1]; exact (hh.2.resolve_left (by omega)).2.2) | (exact hh.1) | (unfold rRound; rw [if_pos (by omega), if_neg (by omega), if_neg (by omega), if_pos (by omega), ← hI.2.2.2.2.1.1, hI.2.2.2.2.2.1, show x6 = s.2 6 2 by omega]) | (unfold rRound; rw [if_pos (by omega), if_neg (by omega), if_neg (by omega), if_neg (by omega), ← hI.2.2.2.2.1.1, hI.2.2.2.2.2.2, show x6 = s.2 6 2 by omega]) | (have e9 : hTl (nx (s.2 6) (s.2 7)) x3 x6 = tl (nx (s.2 6) (s.2 7)) x6 := hTl_y (by rw [← hy.2.1.1]; assumption); omega) | (have e9 : hTl (nx (s.2 6) (s.2 7)) x3 x6 = 0 := hTl_n (by rw [← hy.2.1.1]; assumption); omega) | (have h9 := many_t (p := fun x => hm (nx (s.2 6) (s.2 7)) x = x3) (k := x6) (by omega) (by rw [← hy.2.1.1]; assumption); omega) | (have h9 := many_f (p := fun x => hm (nx (s.2 6) (s.2 7)) x = x3) (k := x6) (by omega) (by rw [← hy.2.1.1]; assumption); omega) | (have h9 : many (fun x => hm (nx (s.2 6) (s.2 7)) x = x3) (0 : Int).toNat = 0 := rfl; omega) | grind [upI])
theorem vX3_round_8 (s : MS) (a1 : Int) (a2 : Int) (hp : tOK (s.2 6) ∧ aOK (s.2 6) (s.2 7) ∧ lOK ((s.2 5) 0) (s.2 6) ∧ (-2147483648 ≤ a1 ∧ a1 < 2147483648)) (x2 : Int) (x3 : Int) (x4 : Int) (x5 : Int) (x6 : Int) (f11 : Int → Int) (f12 : Int → Int) (f13 : Int → Int) (f14 : Int → Int) (f15 : Int → Int) (f16 : Int → Int) (f17 : Int → Int) (f18 : Int → Int) (f19 : Int → Int) (k0 : Int) (k25 : Int) (k33 : Int) (k34 : Int) (hI : k0 = 0 ∧ GO (s.2 6) (s.2 7) f13 f14 f15 f16 ∧ (0 < s.2 5 0 ∧ x2 = a2 ∧ 2 ≤ a2 ∧ a2 ≤ 3) ∧ (0 ≤ x6 ∧ x6 ≤ s.2 6 2) ∧ (x3 = homeN (nx (s.2 6) (s.2 7)) (s.2 6 2) a1 ∧ x3 ≠ -1) ∧ x4 = many (fun x => hm (nx (s.2 6) (s.2 7)) x = x3) x6.toNat ∧ x5 = maxI 0 (hTl (nx (s.2 6) (s.2 7)) x3) x6.toNat) (c_1 : ¬ (s.2 6 2) ≤ x6) (o_3 : (0 ≤ x6 ∧ x6 < 10000)) (c_4 : (f15 x6) = x3) (c_5 : ¬ (f14 x6) ≤ x5) : k0 = 0 ∧ GO (s.2 6) (s.2 7) f13 f14 f15 f16 ∧ (0 < s.2 5 0 ∧ x2 = a2 ∧ 2 ≤ a2 ∧ a2 ≤ 3) ∧ (0 ≤ (i32 (x6 + 1)) ∧ (i32 (x6 + 1)) ≤ s.2 6 2) ∧ (x3 = homeN (nx (s.2 6) (s.2 7)) (s.2 6 2) a1 ∧ x3 ≠ -1) ∧ (i32 (x4 + 1)) = many (fun x => hm (nx (s.2 6) (s.2 7)) x = x3) (i32 (x6 + 1)).toNat ∧ (f14 x6) = maxI 0 (hTl (nx (s.2 6) (s.2 7)) x3) (i32 (x6 + 1)).toNat := by
  obtain ⟨ht, ha, hl, hi⟩ := hp
  have hN := tOK_N ht
  have hg := nx_rng (s.2 6) (s.2 7)
  (try simp only [bI_0, bI_n, Classical.not_not] at *)
  (try have hq := ‹GO (s.2 6) (s.2 7) _ _ _ _›)
  (try have hq := hI.2.1)
  (try have hx := GO_at hq (x := a1) (by omega) (by omega))
  (try have hN2 : 0 < s.2 6 2 := lOK_N ht hl (by omega))
  (try have hy := GO_at hq (x := x6) (by omega) (by omega))
  (try have hh := GO_home hq (by assumption))
  (try have hb := many_b (fun x => hm (nx (s.2 6) (s.2 7)) x = x3) x6.toNat)
  (try have hm1 := max_hit (lo := 0) (f := hTl (nx (s.2 6) (s.2 7)) x3) (k := x6) (by omega))
  (try have hm2 := max_not (lo := 0) (f := hTl (nx (s.2 6) (s.2 7)) x3) (k := x6) (by omega))
  (try have hm3 := max_lo 0 (hTl (nx (s.2 6) (s.2 7)) x3) x6.toNat)
  (try unfold lex3)
  (try simp only [bI_0, bI_n, Classical.not_not] at *)
  (try simp (disch := omega) only [i32_id] at *)
  first | done | omega | ((repeat' (with_reducible apply And.intro)) <;> first | assumption | rfl | omega | (exact hI.1) | (exact hI.2.1) | (exact hq) | (unfold rRound; rw [if_neg (by omega)]) | (unfold rRound; rw [if_pos (by omega), if_pos (by omega)]; omega) | (unfold rRound; rw [if_pos (by omega), if_neg (by omega), if_pos (by omega), ← hh.1]; exact (hh.2.resolve_left (by omega)).2.2) | (exact hh.1) | (unfold rRound; rw [if_pos (by omega), if_neg (by omega), if_neg (by omega), if_pos (by omega), ← hI.2.2.2.2.1.1, hI.2.2.2.2.2.1, show x6 = s.2 6 2 by omega]) | (unfold rRound; rw [if_pos (by omega), if_neg (by omega), if_neg (by omega), if_neg (by omega), ← hI.2.2.2.2.1.1, hI.2.2.2.2.2.2, show x6 = s.2 6 2 by omega]) | (have e9 : hTl (nx (s.2 6) (s.2 7)) x3 x6 = tl (nx (s.2 6) (s.2 7)) x6 := hTl_y (by rw [← hy.2.1.1]; assumption); omega) | (have e9 : hTl (nx (s.2 6) (s.2 7)) x3 x6 = 0 := hTl_n (by rw [← hy.2.1.1]; assumption); omega) | (have h9 := many_t (p := fun x => hm (nx (s.2 6) (s.2 7)) x = x3) (k := x6) (by omega) (by rw [← hy.2.1.1]; assumption); omega) | (have h9 := many_f (p := fun x => hm (nx (s.2 6) (s.2 7)) x = x3) (k := x6) (by omega) (by rw [← hy.2.1.1]; assumption); omega) | (have h9 : many (fun x => hm (nx (s.2 6) (s.2 7)) x = x3) (0 : Int).toNat = 0 := rfl; omega) | grind [upI])
theorem vX3_round_9 (s : MS) (a1 : Int) (a2 : Int) (hp : tOK (s.2 6) ∧ aOK (s.2 6) (s.2 7) ∧ lOK ((s.2 5) 0) (s.2 6) ∧ (-2147483648 ≤ a1 ∧ a1 < 2147483648)) (x2 : Int) (x3 : Int) (x4 : Int) (x5 : Int) (x6 : Int) (f11 : Int → Int) (f12 : Int → Int) (f13 : Int → Int) (f14 : Int → Int) (f15 : Int → Int) (f16 : Int → Int) (f17 : Int → Int) (f18 : Int → Int) (f19 : Int → Int) (k0 : Int) (k25 : Int) (k33 : Int) (k34 : Int) (hI : k0 = 0 ∧ GO (s.2 6) (s.2 7) f13 f14 f15 f16 ∧ (0 < s.2 5 0 ∧ x2 = a2 ∧ 2 ≤ a2 ∧ a2 ≤ 3) ∧ (0 ≤ x6 ∧ x6 ≤ s.2 6 2) ∧ (x3 = homeN (nx (s.2 6) (s.2 7)) (s.2 6 2) a1 ∧ x3 ≠ -1) ∧ x4 = many (fun x => hm (nx (s.2 6) (s.2 7)) x = x3) x6.toNat ∧ x5 = maxI 0 (hTl (nx (s.2 6) (s.2 7)) x3) x6.toNat) (c_1 : ¬ (s.2 6 2) ≤ x6) (o_3 : (0 ≤ x6 ∧ x6 < 10000)) (c_4 : (f15 x6) = x3) (c_5 : ¬ (f14 x6) ≤ x5) : lex3 0 0 ((s.2 6 2 - (i32 (x6 + 1))).toNat) 0 0 ((s.2 6 2 - x6).toNat) := by
  obtain ⟨ht, ha, hl, hi⟩ := hp
  have hN := tOK_N ht
  have hg := nx_rng (s.2 6) (s.2 7)
  (try simp only [bI_0, bI_n, Classical.not_not] at *)
  (try have hq := ‹GO (s.2 6) (s.2 7) _ _ _ _›)
  (try have hq := hI.2.1)
  (try have hx := GO_at hq (x := a1) (by omega) (by omega))
  (try have hN2 : 0 < s.2 6 2 := lOK_N ht hl (by omega))
  (try have hy := GO_at hq (x := x6) (by omega) (by omega))
  (try have hh := GO_home hq (by assumption))
  (try have hb := many_b (fun x => hm (nx (s.2 6) (s.2 7)) x = x3) x6.toNat)
  (try have hm1 := max_hit (lo := 0) (f := hTl (nx (s.2 6) (s.2 7)) x3) (k := x6) (by omega))
  (try have hm2 := max_not (lo := 0) (f := hTl (nx (s.2 6) (s.2 7)) x3) (k := x6) (by omega))
  (try have hm3 := max_lo 0 (hTl (nx (s.2 6) (s.2 7)) x3) x6.toNat)
  (try unfold lex3)
  (try simp only [bI_0, bI_n, Classical.not_not] at *)
  (try simp (disch := omega) only [i32_id] at *)
  first | done | omega | ((repeat' (with_reducible apply And.intro)) <;> first | assumption | rfl | omega | (exact hI.1) | (exact hI.2.1) | (exact hq) | (unfold rRound; rw [if_neg (by omega)]) | (unfold rRound; rw [if_pos (by omega), if_pos (by omega)]; omega) | (unfold rRound; rw [if_pos (by omega), if_neg (by omega), if_pos (by omega), ← hh.1]; exact (hh.2.resolve_left (by omega)).2.2) | (exact hh.1) | (unfold rRound; rw [if_pos (by omega), if_neg (by omega), if_neg (by omega), if_pos (by omega), ← hI.2.2.2.2.1.1, hI.2.2.2.2.2.1, show x6 = s.2 6 2 by omega]) | (unfold rRound; rw [if_pos (by omega), if_neg (by omega), if_neg (by omega), if_neg (by omega), ← hI.2.2.2.2.1.1, hI.2.2.2.2.2.2, show x6 = s.2 6 2 by omega]) | (have e9 : hTl (nx (s.2 6) (s.2 7)) x3 x6 = tl (nx (s.2 6) (s.2 7)) x6 := hTl_y (by rw [← hy.2.1.1]; assumption); omega) | (have e9 : hTl (nx (s.2 6) (s.2 7)) x3 x6 = 0 := hTl_n (by rw [← hy.2.1.1]; assumption); omega) | (have h9 := many_t (p := fun x => hm (nx (s.2 6) (s.2 7)) x = x3) (k := x6) (by omega) (by rw [← hy.2.1.1]; assumption); omega) | (have h9 := many_f (p := fun x => hm (nx (s.2 6) (s.2 7)) x = x3) (k := x6) (by omega) (by rw [← hy.2.1.1]; assumption); omega) | (have h9 : many (fun x => hm (nx (s.2 6) (s.2 7)) x = x3) (0 : Int).toNat = 0 := rfl; omega) | grind [upI])
theorem vX3_round_10 (s : MS) (a1 : Int) (a2 : Int) (hp : tOK (s.2 6) ∧ aOK (s.2 6) (s.2 7) ∧ lOK ((s.2 5) 0) (s.2 6) ∧ (-2147483648 ≤ a1 ∧ a1 < 2147483648)) (x2 : Int) (x3 : Int) (x4 : Int) (x5 : Int) (x6 : Int) (f11 : Int → Int) (f12 : Int → Int) (f13 : Int → Int) (f14 : Int → Int) (f15 : Int → Int) (f16 : Int → Int) (f17 : Int → Int) (f18 : Int → Int) (f19 : Int → Int) (k0 : Int) (k25 : Int) (k33 : Int) (k34 : Int) (hI : k0 = 0 ∧ GO (s.2 6) (s.2 7) f13 f14 f15 f16 ∧ (0 < s.2 5 0 ∧ x2 = a2 ∧ 2 ≤ a2 ∧ a2 ≤ 3) ∧ (0 ≤ x6 ∧ x6 ≤ s.2 6 2) ∧ (x3 = homeN (nx (s.2 6) (s.2 7)) (s.2 6 2) a1 ∧ x3 ≠ -1) ∧ x4 = many (fun x => hm (nx (s.2 6) (s.2 7)) x = x3) x6.toNat ∧ x5 = maxI 0 (hTl (nx (s.2 6) (s.2 7)) x3) x6.toNat) (c_1 : ¬ (s.2 6 2) ≤ x6) (o_3 : (0 ≤ x6 ∧ x6 < 10000)) (c_4 : ¬ (f15 x6) = x3) : k0 = 0 ∧ GO (s.2 6) (s.2 7) f13 f14 f15 f16 ∧ (0 < s.2 5 0 ∧ x2 = a2 ∧ 2 ≤ a2 ∧ a2 ≤ 3) ∧ (0 ≤ (i32 (x6 + 1)) ∧ (i32 (x6 + 1)) ≤ s.2 6 2) ∧ (x3 = homeN (nx (s.2 6) (s.2 7)) (s.2 6 2) a1 ∧ x3 ≠ -1) ∧ x4 = many (fun x => hm (nx (s.2 6) (s.2 7)) x = x3) (i32 (x6 + 1)).toNat ∧ x5 = maxI 0 (hTl (nx (s.2 6) (s.2 7)) x3) (i32 (x6 + 1)).toNat := by
  obtain ⟨ht, ha, hl, hi⟩ := hp
  have hN := tOK_N ht
  have hg := nx_rng (s.2 6) (s.2 7)
  (try simp only [bI_0, bI_n, Classical.not_not] at *)
  (try have hq := ‹GO (s.2 6) (s.2 7) _ _ _ _›)
  (try have hq := hI.2.1)
  (try have hx := GO_at hq (x := a1) (by omega) (by omega))
  (try have hN2 : 0 < s.2 6 2 := lOK_N ht hl (by omega))
  (try have hy := GO_at hq (x := x6) (by omega) (by omega))
  (try have hh := GO_home hq (by assumption))
  (try have hb := many_b (fun x => hm (nx (s.2 6) (s.2 7)) x = x3) x6.toNat)
  (try have hm1 := max_hit (lo := 0) (f := hTl (nx (s.2 6) (s.2 7)) x3) (k := x6) (by omega))
  (try have hm2 := max_not (lo := 0) (f := hTl (nx (s.2 6) (s.2 7)) x3) (k := x6) (by omega))
  (try have hm3 := max_lo 0 (hTl (nx (s.2 6) (s.2 7)) x3) x6.toNat)
  (try unfold lex3)
  (try simp only [bI_0, bI_n, Classical.not_not] at *)
  (try simp (disch := omega) only [i32_id] at *)
  first | done | omega | ((repeat' (with_reducible apply And.intro)) <;> first | assumption | rfl | omega | (exact hI.1) | (exact hI.2.1) | (exact hq) | (unfold rRound; rw [if_neg (by omega)]) | (unfold rRound; rw [if_pos (by omega), if_pos (by omega)]; omega) | (unfold rRound; rw [if_pos (by omega), if_neg (by omega), if_pos (by omega), ← hh.1]; exact (hh.2.resolve_left (by omega)).2.2) | (exact hh.1) | (unfold rRound; rw [if_pos (by omega), if_neg (by omega), if_neg (by omega), if_pos (by omega), ← hI.2.2.2.2.1.1, hI.2.2.2.2.2.1, show x6 = s.2 6 2 by omega]) | (unfold rRound; rw [if_pos (by omega), if_neg (by omega), if_neg (by omega), if_neg (by omega), ← hI.2.2.2.2.1.1, hI.2.2.2.2.2.2, show x6 = s.2 6 2 by omega]) | (have e9 : hTl (nx (s.2 6) (s.2 7)) x3 x6 = tl (nx (s.2 6) (s.2 7)) x6 := hTl_y (by rw [← hy.2.1.1]; assumption); omega) | (have e9 : hTl (nx (s.2 6) (s.2 7)) x3 x6 = 0 := hTl_n (by rw [← hy.2.1.1]; assumption); omega) | (have h9 := many_t (p := fun x => hm (nx (s.2 6) (s.2 7)) x = x3) (k := x6) (by omega) (by rw [← hy.2.1.1]; assumption); omega) | (have h9 := many_f (p := fun x => hm (nx (s.2 6) (s.2 7)) x = x3) (k := x6) (by omega) (by rw [← hy.2.1.1]; assumption); omega) | (have h9 : many (fun x => hm (nx (s.2 6) (s.2 7)) x = x3) (0 : Int).toNat = 0 := rfl; omega) | grind [upI])
theorem vX3_round_11 (s : MS) (a1 : Int) (a2 : Int) (hp : tOK (s.2 6) ∧ aOK (s.2 6) (s.2 7) ∧ lOK ((s.2 5) 0) (s.2 6) ∧ (-2147483648 ≤ a1 ∧ a1 < 2147483648)) (x2 : Int) (x3 : Int) (x4 : Int) (x5 : Int) (x6 : Int) (f11 : Int → Int) (f12 : Int → Int) (f13 : Int → Int) (f14 : Int → Int) (f15 : Int → Int) (f16 : Int → Int) (f17 : Int → Int) (f18 : Int → Int) (f19 : Int → Int) (k0 : Int) (k25 : Int) (k33 : Int) (k34 : Int) (hI : k0 = 0 ∧ GO (s.2 6) (s.2 7) f13 f14 f15 f16 ∧ (0 < s.2 5 0 ∧ x2 = a2 ∧ 2 ≤ a2 ∧ a2 ≤ 3) ∧ (0 ≤ x6 ∧ x6 ≤ s.2 6 2) ∧ (x3 = homeN (nx (s.2 6) (s.2 7)) (s.2 6 2) a1 ∧ x3 ≠ -1) ∧ x4 = many (fun x => hm (nx (s.2 6) (s.2 7)) x = x3) x6.toNat ∧ x5 = maxI 0 (hTl (nx (s.2 6) (s.2 7)) x3) x6.toNat) (c_1 : ¬ (s.2 6 2) ≤ x6) (o_3 : (0 ≤ x6 ∧ x6 < 10000)) (c_4 : ¬ (f15 x6) = x3) : lex3 0 0 ((s.2 6 2 - (i32 (x6 + 1))).toNat) 0 0 ((s.2 6 2 - x6).toNat) := by
  obtain ⟨ht, ha, hl, hi⟩ := hp
  have hN := tOK_N ht
  have hg := nx_rng (s.2 6) (s.2 7)
  (try simp only [bI_0, bI_n, Classical.not_not] at *)
  (try have hq := ‹GO (s.2 6) (s.2 7) _ _ _ _›)
  (try have hq := hI.2.1)
  (try have hx := GO_at hq (x := a1) (by omega) (by omega))
  (try have hN2 : 0 < s.2 6 2 := lOK_N ht hl (by omega))
  (try have hy := GO_at hq (x := x6) (by omega) (by omega))
  (try have hh := GO_home hq (by assumption))
  (try have hb := many_b (fun x => hm (nx (s.2 6) (s.2 7)) x = x3) x6.toNat)
  (try have hm1 := max_hit (lo := 0) (f := hTl (nx (s.2 6) (s.2 7)) x3) (k := x6) (by omega))
  (try have hm2 := max_not (lo := 0) (f := hTl (nx (s.2 6) (s.2 7)) x3) (k := x6) (by omega))
  (try have hm3 := max_lo 0 (hTl (nx (s.2 6) (s.2 7)) x3) x6.toNat)
  (try unfold lex3)
  (try simp only [bI_0, bI_n, Classical.not_not] at *)
  (try simp (disch := omega) only [i32_id] at *)
  first | done | omega | ((repeat' (with_reducible apply And.intro)) <;> first | assumption | rfl | omega | (exact hI.1) | (exact hI.2.1) | (exact hq) | (unfold rRound; rw [if_neg (by omega)]) | (unfold rRound; rw [if_pos (by omega), if_pos (by omega)]; omega) | (unfold rRound; rw [if_pos (by omega), if_neg (by omega), if_pos (by omega), ← hh.1]; exact (hh.2.resolve_left (by omega)).2.2) | (exact hh.1) | (unfold rRound; rw [if_pos (by omega), if_neg (by omega), if_neg (by omega), if_pos (by omega), ← hI.2.2.2.2.1.1, hI.2.2.2.2.2.1, show x6 = s.2 6 2 by omega]) | (unfold rRound; rw [if_pos (by omega), if_neg (by omega), if_neg (by omega), if_neg (by omega), ← hI.2.2.2.2.1.1, hI.2.2.2.2.2.2, show x6 = s.2 6 2 by omega]) | (have e9 : hTl (nx (s.2 6) (s.2 7)) x3 x6 = tl (nx (s.2 6) (s.2 7)) x6 := hTl_y (by rw [← hy.2.1.1]; assumption); omega) | (have e9 : hTl (nx (s.2 6) (s.2 7)) x3 x6 = 0 := hTl_n (by rw [← hy.2.1.1]; assumption); omega) | (have h9 := many_t (p := fun x => hm (nx (s.2 6) (s.2 7)) x = x3) (k := x6) (by omega) (by rw [← hy.2.1.1]; assumption); omega) | (have h9 := many_f (p := fun x => hm (nx (s.2 6) (s.2 7)) x = x3) (k := x6) (by omega) (by rw [← hy.2.1.1]; assumption); omega) | (have h9 : many (fun x => hm (nx (s.2 6) (s.2 7)) x = x3) (0 : Int).toNat = 0 := rfl; omega) | grind [upI])
theorem vX3_round_12 (s : MS) (a1 : Int) (a2 : Int) (hp : tOK (s.2 6) ∧ aOK (s.2 6) (s.2 7) ∧ lOK ((s.2 5) 0) (s.2 6) ∧ (-2147483648 ≤ a1 ∧ a1 < 2147483648)) (c_2 : (bI (0 < (s.2 5) 0)) = 0) : (-2) = (rRound ((s.2 5) 0) (s.2 6) (s.2 7) a1 a2) := by
  obtain ⟨ht, ha, hl, hi⟩ := hp
  have hN := tOK_N ht
  have hg := nx_rng (s.2 6) (s.2 7)
  (try simp only [bI_0, bI_n, Classical.not_not] at *)
  (try have hq := ‹GO (s.2 6) (s.2 7) _ _ _ _›)
  (try have hq := hI.2.1)
  (try have hx := GO_at hq (x := a1) (by omega) (by omega))
  (try have hN2 : 0 < s.2 6 2 := lOK_N ht hl (by omega))
  (try have hy := GO_at hq (x := x6) (by omega) (by omega))
  (try have hh := GO_home hq (by assumption))
  (try have hb := many_b (fun x => hm (nx (s.2 6) (s.2 7)) x = x3) x6.toNat)
  (try have hm1 := max_hit (lo := 0) (f := hTl (nx (s.2 6) (s.2 7)) x3) (k := x6) (by omega))
  (try have hm2 := max_not (lo := 0) (f := hTl (nx (s.2 6) (s.2 7)) x3) (k := x6) (by omega))
  (try have hm3 := max_lo 0 (hTl (nx (s.2 6) (s.2 7)) x3) x6.toNat)
  (try unfold lex3)
  (try simp only [bI_0, bI_n, Classical.not_not] at *)
  (try simp (disch := omega) only [i32_id] at *)
  first | done | omega | ((repeat' (with_reducible apply And.intro)) <;> first | assumption | rfl | omega | (exact hI.1) | (exact hI.2.1) | (exact hq) | (unfold rRound; rw [if_neg (by omega)]) | (unfold rRound; rw [if_pos (by omega), if_pos (by omega)]; omega) | (unfold rRound; rw [if_pos (by omega), if_neg (by omega), if_pos (by omega), ← hh.1]; exact (hh.2.resolve_left (by omega)).2.2) | (exact hh.1) | (unfold rRound; rw [if_pos (by omega), if_neg (by omega), if_neg (by omega), if_pos (by omega), ← hI.2.2.2.2.1.1, hI.2.2.2.2.2.1, show x6 = s.2 6 2 by omega]) | (unfold rRound; rw [if_pos (by omega), if_neg (by omega), if_neg (by omega), if_neg (by omega), ← hI.2.2.2.2.1.1, hI.2.2.2.2.2.2, show x6 = s.2 6 2 by omega]) | (have e9 : hTl (nx (s.2 6) (s.2 7)) x3 x6 = tl (nx (s.2 6) (s.2 7)) x6 := hTl_y (by rw [← hy.2.1.1]; assumption); omega) | (have e9 : hTl (nx (s.2 6) (s.2 7)) x3 x6 = 0 := hTl_n (by rw [← hy.2.1.1]; assumption); omega) | (have h9 := many_t (p := fun x => hm (nx (s.2 6) (s.2 7)) x = x3) (k := x6) (by omega) (by rw [← hy.2.1.1]; assumption); omega) | (have h9 := many_f (p := fun x => hm (nx (s.2 6) (s.2 7)) x = x3) (k := x6) (by omega) (by rw [← hy.2.1.1]; assumption); omega) | (have h9 : many (fun x => hm (nx (s.2 6) (s.2 7)) x = x3) (0 : Int).toNat = 0 := rfl; omega) | grind [upI])
theorem vX3_round_13 (s : MS) (a1 : Int) (a2 : Int) (hp : tOK (s.2 6) ∧ aOK (s.2 6) (s.2 7) ∧ lOK ((s.2 5) 0) (s.2 6) ∧ (-2147483648 ≤ a1 ∧ a1 < 2147483648)) (c_2 : ¬ (bI (0 < (s.2 5) 0)) = 0) (c_4 : ¬ (bI ((0 : Int) ≤ a2 ∧ a2 ≤ (3 : Int))) = 0) : (tOK (s.2 6) ∧ aOK (s.2 6) (s.2 7)) := by
  obtain ⟨ht, ha, hl, hi⟩ := hp
  have hN := tOK_N ht
  have hg := nx_rng (s.2 6) (s.2 7)
  (try simp only [bI_0, bI_n, Classical.not_not] at *)
  (try have hq := ‹GO (s.2 6) (s.2 7) _ _ _ _›)
  (try have hq := hI.2.1)
  (try have hx := GO_at hq (x := a1) (by omega) (by omega))
  (try have hN2 : 0 < s.2 6 2 := lOK_N ht hl (by omega))
  (try have hy := GO_at hq (x := x6) (by omega) (by omega))
  (try have hh := GO_home hq (by assumption))
  (try have hb := many_b (fun x => hm (nx (s.2 6) (s.2 7)) x = x3) x6.toNat)
  (try have hm1 := max_hit (lo := 0) (f := hTl (nx (s.2 6) (s.2 7)) x3) (k := x6) (by omega))
  (try have hm2 := max_not (lo := 0) (f := hTl (nx (s.2 6) (s.2 7)) x3) (k := x6) (by omega))
  (try have hm3 := max_lo 0 (hTl (nx (s.2 6) (s.2 7)) x3) x6.toNat)
  (try unfold lex3)
  (try simp only [bI_0, bI_n, Classical.not_not] at *)
  (try simp (disch := omega) only [i32_id] at *)
  first | done | omega | ((repeat' (with_reducible apply And.intro)) <;> first | assumption | rfl | omega | (exact hI.1) | (exact hI.2.1) | (exact hq) | (unfold rRound; rw [if_neg (by omega)]) | (unfold rRound; rw [if_pos (by omega), if_pos (by omega)]; omega) | (unfold rRound; rw [if_pos (by omega), if_neg (by omega), if_pos (by omega), ← hh.1]; exact (hh.2.resolve_left (by omega)).2.2) | (exact hh.1) | (unfold rRound; rw [if_pos (by omega), if_neg (by omega), if_neg (by omega), if_pos (by omega), ← hI.2.2.2.2.1.1, hI.2.2.2.2.2.1, show x6 = s.2 6 2 by omega]) | (unfold rRound; rw [if_pos (by omega), if_neg (by omega), if_neg (by omega), if_neg (by omega), ← hI.2.2.2.2.1.1, hI.2.2.2.2.2.2, show x6 = s.2 6 2 by omega]) | (have e9 : hTl (nx (s.2 6) (s.2 7)) x3 x6 = tl (nx (s.2 6) (s.2 7)) x6 := hTl_y (by rw [← hy.2.1.1]; assumption); omega) | (have e9 : hTl (nx (s.2 6) (s.2 7)) x3 x6 = 0 := hTl_n (by rw [← hy.2.1.1]; assumption); omega) | (have h9 := many_t (p := fun x => hm (nx (s.2 6) (s.2 7)) x = x3) (k := x6) (by omega) (by rw [← hy.2.1.1]; assumption); omega) | (have h9 := many_f (p := fun x => hm (nx (s.2 6) (s.2 7)) x = x3) (k := x6) (by omega) (by rw [← hy.2.1.1]; assumption); omega) | (have h9 : many (fun x => hm (nx (s.2 6) (s.2 7)) x = x3) (0 : Int).toNat = 0 := rfl; omega) | grind [upI])
theorem vX3_round_14 (s : MS) (a1 : Int) (a2 : Int) (hp : tOK (s.2 6) ∧ aOK (s.2 6) (s.2 7) ∧ lOK ((s.2 5) 0) (s.2 6) ∧ (-2147483648 ≤ a1 ∧ a1 < 2147483648)) (c_2 : ¬ (bI (0 < (s.2 5) 0)) = 0) (c_4 : ¬ (bI ((0 : Int) ≤ a2 ∧ a2 ≤ (3 : Int))) = 0) (o_5 : (tOK (s.2 6) ∧ aOK (s.2 6) (s.2 7))) (f_6 : Int → Int) (f_7 : Int → Int) (f_8 : Int → Int) (f_9 : Int → Int) (f_10 : Int → Int) (f_11 : Int → Int) (f_12 : Int → Int) (k_13 : Int) (q_14 : (GO (s.2 6) (s.2 7) f_8 f_9 f_10 f_11)) : (tOK (s.2 6) ∧ (-2147483648 ≤ a1 ∧ a1 < 2147483648)) := by
  obtain ⟨ht, ha, hl, hi⟩ := hp
  have hN := tOK_N ht
  have hg := nx_rng (s.2 6) (s.2 7)
  (try simp only [bI_0, bI_n, Classical.not_not] at *)
  (try have hq := ‹GO (s.2 6) (s.2 7) _ _ _ _›)
  (try have hq := hI.2.1)
  (try have hx := GO_at hq (x := a1) (by omega) (by omega))
  (try have hN2 : 0 < s.2 6 2 := lOK_N ht hl (by omega))
  (try have hy := GO_at hq (x := x6) (by omega) (by omega))
  (try have hh := GO_home hq (by assumption))
  (try have hb := many_b (fun x => hm (nx (s.2 6) (s.2 7)) x = x3) x6.toNat)
  (try have hm1 := max_hit (lo := 0) (f := hTl (nx (s.2 6) (s.2 7)) x3) (k := x6) (by omega))
  (try have hm2 := max_not (lo := 0) (f := hTl (nx (s.2 6) (s.2 7)) x3) (k := x6) (by omega))
  (try have hm3 := max_lo 0 (hTl (nx (s.2 6) (s.2 7)) x3) x6.toNat)
  (try unfold lex3)
  (try simp only [bI_0, bI_n, Classical.not_not] at *)
  (try simp (disch := omega) only [i32_id] at *)
  first | done | omega | ((repeat' (with_reducible apply And.intro)) <;> first | assumption | rfl | omega | (exact hI.1) | (exact hI.2.1) | (exact hq) | (unfold rRound; rw [if_neg (by omega)]) | (unfold rRound; rw [if_pos (by omega), if_pos (by omega)]; omega) | (unfold rRound; rw [if_pos (by omega), if_neg (by omega), if_pos (by omega), ← hh.1]; exact (hh.2.resolve_left (by omega)).2.2) | (exact hh.1) | (unfold rRound; rw [if_pos (by omega), if_neg (by omega), if_neg (by omega), if_pos (by omega), ← hI.2.2.2.2.1.1, hI.2.2.2.2.2.1, show x6 = s.2 6 2 by omega]) | (unfold rRound; rw [if_pos (by omega), if_neg (by omega), if_neg (by omega), if_neg (by omega), ← hI.2.2.2.2.1.1, hI.2.2.2.2.2.2, show x6 = s.2 6 2 by omega]) | (have e9 : hTl (nx (s.2 6) (s.2 7)) x3 x6 = tl (nx (s.2 6) (s.2 7)) x6 := hTl_y (by rw [← hy.2.1.1]; assumption); omega) | (have e9 : hTl (nx (s.2 6) (s.2 7)) x3 x6 = 0 := hTl_n (by rw [← hy.2.1.1]; assumption); omega) | (have h9 := many_t (p := fun x => hm (nx (s.2 6) (s.2 7)) x = x3) (k := x6) (by omega) (by rw [← hy.2.1.1]; assumption); omega) | (have h9 := many_f (p := fun x => hm (nx (s.2 6) (s.2 7)) x = x3) (k := x6) (by omega) (by rw [← hy.2.1.1]; assumption); omega) | (have h9 : many (fun x => hm (nx (s.2 6) (s.2 7)) x = x3) (0 : Int).toNat = 0 := rfl; omega) | grind [upI])
theorem vX3_round_15 (s : MS) (a1 : Int) (a2 : Int) (hp : tOK (s.2 6) ∧ aOK (s.2 6) (s.2 7) ∧ lOK ((s.2 5) 0) (s.2 6) ∧ (-2147483648 ≤ a1 ∧ a1 < 2147483648)) (c_2 : ¬ (bI (0 < (s.2 5) 0)) = 0) (c_4 : ¬ (bI ((0 : Int) ≤ a2 ∧ a2 ≤ (3 : Int))) = 0) (o_5 : (tOK (s.2 6) ∧ aOK (s.2 6) (s.2 7))) (f_6 : Int → Int) (f_7 : Int → Int) (f_8 : Int → Int) (f_9 : Int → Int) (f_10 : Int → Int) (f_11 : Int → Int) (f_12 : Int → Int) (k_13 : Int) (q_14 : (GO (s.2 6) (s.2 7) f_8 f_9 f_10 f_11)) (o_15 : (tOK (s.2 6) ∧ (-2147483648 ≤ a1 ∧ a1 < 2147483648))) (r_16 : Int) (q_17 : (isNth (fun x => f_10 x = x) ((s.2 6) 2) a1 r_16)) (c_18 : r_16 = (-1)) : r_16 = (rRound ((s.2 5) 0) (s.2 6) (s.2 7) a1 a2) := by
  obtain ⟨ht, ha, hl, hi⟩ := hp
  have hN := tOK_N ht
  have hg := nx_rng (s.2 6) (s.2 7)
  (try simp only [bI_0, bI_n, Classical.not_not] at *)
  (try have hq := ‹GO (s.2 6) (s.2 7) _ _ _ _›)
  (try have hq := hI.2.1)
  (try have hx := GO_at hq (x := a1) (by omega) (by omega))
  (try have hN2 : 0 < s.2 6 2 := lOK_N ht hl (by omega))
  (try have hy := GO_at hq (x := x6) (by omega) (by omega))
  (try have hh := GO_home hq (by assumption))
  (try have hb := many_b (fun x => hm (nx (s.2 6) (s.2 7)) x = x3) x6.toNat)
  (try have hm1 := max_hit (lo := 0) (f := hTl (nx (s.2 6) (s.2 7)) x3) (k := x6) (by omega))
  (try have hm2 := max_not (lo := 0) (f := hTl (nx (s.2 6) (s.2 7)) x3) (k := x6) (by omega))
  (try have hm3 := max_lo 0 (hTl (nx (s.2 6) (s.2 7)) x3) x6.toNat)
  (try unfold lex3)
  (try simp only [bI_0, bI_n, Classical.not_not] at *)
  (try simp (disch := omega) only [i32_id] at *)
  first | done | omega | ((repeat' (with_reducible apply And.intro)) <;> first | assumption | rfl | omega | (exact hI.1) | (exact hI.2.1) | (exact hq) | (unfold rRound; rw [if_neg (by omega)]) | (unfold rRound; rw [if_pos (by omega), if_pos (by omega)]; omega) | (unfold rRound; rw [if_pos (by omega), if_neg (by omega), if_pos (by omega), ← hh.1]; exact (hh.2.resolve_left (by omega)).2.2) | (exact hh.1) | (unfold rRound; rw [if_pos (by omega), if_neg (by omega), if_neg (by omega), if_pos (by omega), ← hI.2.2.2.2.1.1, hI.2.2.2.2.2.1, show x6 = s.2 6 2 by omega]) | (unfold rRound; rw [if_pos (by omega), if_neg (by omega), if_neg (by omega), if_neg (by omega), ← hI.2.2.2.2.1.1, hI.2.2.2.2.2.2, show x6 = s.2 6 2 by omega]) | (have e9 : hTl (nx (s.2 6) (s.2 7)) x3 x6 = tl (nx (s.2 6) (s.2 7)) x6 := hTl_y (by rw [← hy.2.1.1]; assumption); omega) | (have e9 : hTl (nx (s.2 6) (s.2 7)) x3 x6 = 0 := hTl_n (by rw [← hy.2.1.1]; assumption); omega) | (have h9 := many_t (p := fun x => hm (nx (s.2 6) (s.2 7)) x = x3) (k := x6) (by omega) (by rw [← hy.2.1.1]; assumption); omega) | (have h9 := many_f (p := fun x => hm (nx (s.2 6) (s.2 7)) x = x3) (k := x6) (by omega) (by rw [← hy.2.1.1]; assumption); omega) | (have h9 : many (fun x => hm (nx (s.2 6) (s.2 7)) x = x3) (0 : Int).toNat = 0 := rfl; omega) | grind [upI])
theorem vX3_round_16 (s : MS) (a1 : Int) (a2 : Int) (hp : tOK (s.2 6) ∧ aOK (s.2 6) (s.2 7) ∧ lOK ((s.2 5) 0) (s.2 6) ∧ (-2147483648 ≤ a1 ∧ a1 < 2147483648)) (c_2 : ¬ (bI (0 < (s.2 5) 0)) = 0) (c_4 : ¬ (bI ((0 : Int) ≤ a2 ∧ a2 ≤ (3 : Int))) = 0) (o_5 : (tOK (s.2 6) ∧ aOK (s.2 6) (s.2 7))) (f_6 : Int → Int) (f_7 : Int → Int) (f_8 : Int → Int) (f_9 : Int → Int) (f_10 : Int → Int) (f_11 : Int → Int) (f_12 : Int → Int) (k_13 : Int) (q_14 : (GO (s.2 6) (s.2 7) f_8 f_9 f_10 f_11)) (o_15 : (tOK (s.2 6) ∧ (-2147483648 ≤ a1 ∧ a1 < 2147483648))) (r_16 : Int) (q_17 : (isNth (fun x => f_10 x = x) ((s.2 6) 2) a1 r_16)) (c_18 : ¬ r_16 = (-1)) (c_19 : ¬ a2 = 0) (c_20 : ¬ a2 = 1) : (0 : Int) = 0 ∧ GO (s.2 6) (s.2 7) f_8 f_9 f_10 f_11 ∧ (0 < s.2 5 0 ∧ a2 = a2 ∧ 2 ≤ a2 ∧ a2 ≤ 3) ∧ (0 ≤ (0 : Int) ∧ (0 : Int) ≤ s.2 6 2) ∧ (r_16 = homeN (nx (s.2 6) (s.2 7)) (s.2 6 2) a1 ∧ r_16 ≠ -1) ∧ (0 : Int) = many (fun x => hm (nx (s.2 6) (s.2 7)) x = r_16) (0 : Int).toNat ∧ (0 : Int) = maxI 0 (hTl (nx (s.2 6) (s.2 7)) r_16) (0 : Int).toNat := by
  obtain ⟨ht, ha, hl, hi⟩ := hp
  have hN := tOK_N ht
  have hg := nx_rng (s.2 6) (s.2 7)
  (try simp only [bI_0, bI_n, Classical.not_not] at *)
  (try have hq := ‹GO (s.2 6) (s.2 7) _ _ _ _›)
  (try have hq := hI.2.1)
  (try have hx := GO_at hq (x := a1) (by omega) (by omega))
  (try have hN2 : 0 < s.2 6 2 := lOK_N ht hl (by omega))
  (try have hy := GO_at hq (x := x6) (by omega) (by omega))
  (try have hh := GO_home hq (by assumption))
  (try have hb := many_b (fun x => hm (nx (s.2 6) (s.2 7)) x = x3) x6.toNat)
  (try have hm1 := max_hit (lo := 0) (f := hTl (nx (s.2 6) (s.2 7)) x3) (k := x6) (by omega))
  (try have hm2 := max_not (lo := 0) (f := hTl (nx (s.2 6) (s.2 7)) x3) (k := x6) (by omega))
  (try have hm3 := max_lo 0 (hTl (nx (s.2 6) (s.2 7)) x3) x6.toNat)
  (try unfold lex3)
  (try simp only [bI_0, bI_n, Classical.not_not] at *)
  (try simp (disch := omega) only [i32_id] at *)
  first | done | omega | ((repeat' (with_reducible apply And.intro)) <;> first | assumption | rfl | omega | (exact hI.1) | (exact hI.2.1) | (exact hq) | (unfold rRound; rw [if_neg (by omega)]) | (unfold rRound; rw [if_pos (by omega), if_pos (by omega)]; omega) | (unfold rRound; rw [if_pos (by omega), if_neg (by omega), if_pos (by omega), ← hh.1]; exact (hh.2.resolve_left (by omega)).2.2) | (exact hh.1) | (unfold rRound; rw [if_pos (by omega), if_neg (by omega), if_neg (by omega), if_pos (by omega), ← hI.2.2.2.2.1.1, hI.2.2.2.2.2.1, show x6 = s.2 6 2 by omega]) | (unfold rRound; rw [if_pos (by omega), if_neg (by omega), if_neg (by omega), if_neg (by omega), ← hI.2.2.2.2.1.1, hI.2.2.2.2.2.2, show x6 = s.2 6 2 by omega]) | (have e9 : hTl (nx (s.2 6) (s.2 7)) x3 x6 = tl (nx (s.2 6) (s.2 7)) x6 := hTl_y (by rw [← hy.2.1.1]; assumption); omega) | (have e9 : hTl (nx (s.2 6) (s.2 7)) x3 x6 = 0 := hTl_n (by rw [← hy.2.1.1]; assumption); omega) | (have h9 := many_t (p := fun x => hm (nx (s.2 6) (s.2 7)) x = x3) (k := x6) (by omega) (by rw [← hy.2.1.1]; assumption); omega) | (have h9 := many_f (p := fun x => hm (nx (s.2 6) (s.2 7)) x = x3) (k := x6) (by omega) (by rw [← hy.2.1.1]; assumption); omega) | (have h9 : many (fun x => hm (nx (s.2 6) (s.2 7)) x = x3) (0 : Int).toNat = 0 := rfl; omega) | grind [upI])
theorem vX3_round_17 (s : MS) (a1 : Int) (a2 : Int) (hp : tOK (s.2 6) ∧ aOK (s.2 6) (s.2 7) ∧ lOK ((s.2 5) 0) (s.2 6) ∧ (-2147483648 ≤ a1 ∧ a1 < 2147483648)) (c_2 : ¬ (bI (0 < (s.2 5) 0)) = 0) (c_4 : ¬ (bI ((0 : Int) ≤ a2 ∧ a2 ≤ (3 : Int))) = 0) (o_5 : (tOK (s.2 6) ∧ aOK (s.2 6) (s.2 7))) (f_6 : Int → Int) (f_7 : Int → Int) (f_8 : Int → Int) (f_9 : Int → Int) (f_10 : Int → Int) (f_11 : Int → Int) (f_12 : Int → Int) (k_13 : Int) (q_14 : (GO (s.2 6) (s.2 7) f_8 f_9 f_10 f_11)) (o_15 : (tOK (s.2 6) ∧ (-2147483648 ≤ a1 ∧ a1 < 2147483648))) (r_16 : Int) (q_17 : (isNth (fun x => f_10 x = x) ((s.2 6) 2) a1 r_16)) (c_18 : ¬ r_16 = (-1)) (c_19 : ¬ a2 = 0) (c_20 : a2 = 1) : (0 ≤ r_16 ∧ r_16 < 10000) := by
  obtain ⟨ht, ha, hl, hi⟩ := hp
  have hN := tOK_N ht
  have hg := nx_rng (s.2 6) (s.2 7)
  (try simp only [bI_0, bI_n, Classical.not_not] at *)
  (try have hq := ‹GO (s.2 6) (s.2 7) _ _ _ _›)
  (try have hq := hI.2.1)
  (try have hx := GO_at hq (x := a1) (by omega) (by omega))
  (try have hN2 : 0 < s.2 6 2 := lOK_N ht hl (by omega))
  (try have hy := GO_at hq (x := x6) (by omega) (by omega))
  (try have hh := GO_home hq (by assumption))
  (try have hb := many_b (fun x => hm (nx (s.2 6) (s.2 7)) x = x3) x6.toNat)
  (try have hm1 := max_hit (lo := 0) (f := hTl (nx (s.2 6) (s.2 7)) x3) (k := x6) (by omega))
  (try have hm2 := max_not (lo := 0) (f := hTl (nx (s.2 6) (s.2 7)) x3) (k := x6) (by omega))
  (try have hm3 := max_lo 0 (hTl (nx (s.2 6) (s.2 7)) x3) x6.toNat)
  (try unfold lex3)
  (try simp only [bI_0, bI_n, Classical.not_not] at *)
  (try simp (disch := omega) only [i32_id] at *)
  first | done | omega | ((repeat' (with_reducible apply And.intro)) <;> first | assumption | rfl | omega | (exact hI.1) | (exact hI.2.1) | (exact hq) | (unfold rRound; rw [if_neg (by omega)]) | (unfold rRound; rw [if_pos (by omega), if_pos (by omega)]; omega) | (unfold rRound; rw [if_pos (by omega), if_neg (by omega), if_pos (by omega), ← hh.1]; exact (hh.2.resolve_left (by omega)).2.2) | (exact hh.1) | (unfold rRound; rw [if_pos (by omega), if_neg (by omega), if_neg (by omega), if_pos (by omega), ← hI.2.2.2.2.1.1, hI.2.2.2.2.2.1, show x6 = s.2 6 2 by omega]) | (unfold rRound; rw [if_pos (by omega), if_neg (by omega), if_neg (by omega), if_neg (by omega), ← hI.2.2.2.2.1.1, hI.2.2.2.2.2.2, show x6 = s.2 6 2 by omega]) | (have e9 : hTl (nx (s.2 6) (s.2 7)) x3 x6 = tl (nx (s.2 6) (s.2 7)) x6 := hTl_y (by rw [← hy.2.1.1]; assumption); omega) | (have e9 : hTl (nx (s.2 6) (s.2 7)) x3 x6 = 0 := hTl_n (by rw [← hy.2.1.1]; assumption); omega) | (have h9 := many_t (p := fun x => hm (nx (s.2 6) (s.2 7)) x = x3) (k := x6) (by omega) (by rw [← hy.2.1.1]; assumption); omega) | (have h9 := many_f (p := fun x => hm (nx (s.2 6) (s.2 7)) x = x3) (k := x6) (by omega) (by rw [← hy.2.1.1]; assumption); omega) | (have h9 : many (fun x => hm (nx (s.2 6) (s.2 7)) x = x3) (0 : Int).toNat = 0 := rfl; omega) | grind [upI])
theorem vX3_round_18 (s : MS) (a1 : Int) (a2 : Int) (hp : tOK (s.2 6) ∧ aOK (s.2 6) (s.2 7) ∧ lOK ((s.2 5) 0) (s.2 6) ∧ (-2147483648 ≤ a1 ∧ a1 < 2147483648)) (c_2 : ¬ (bI (0 < (s.2 5) 0)) = 0) (c_4 : ¬ (bI ((0 : Int) ≤ a2 ∧ a2 ≤ (3 : Int))) = 0) (o_5 : (tOK (s.2 6) ∧ aOK (s.2 6) (s.2 7))) (f_6 : Int → Int) (f_7 : Int → Int) (f_8 : Int → Int) (f_9 : Int → Int) (f_10 : Int → Int) (f_11 : Int → Int) (f_12 : Int → Int) (k_13 : Int) (q_14 : (GO (s.2 6) (s.2 7) f_8 f_9 f_10 f_11)) (o_15 : (tOK (s.2 6) ∧ (-2147483648 ≤ a1 ∧ a1 < 2147483648))) (r_16 : Int) (q_17 : (isNth (fun x => f_10 x = x) ((s.2 6) 2) a1 r_16)) (c_18 : ¬ r_16 = (-1)) (c_19 : ¬ a2 = 0) (c_20 : a2 = 1) (o_21 : (0 ≤ r_16 ∧ r_16 < 10000)) : (f_11 r_16) = (rRound ((s.2 5) 0) (s.2 6) (s.2 7) a1 a2) := by
  obtain ⟨ht, ha, hl, hi⟩ := hp
  have hN := tOK_N ht
  have hg := nx_rng (s.2 6) (s.2 7)
  (try simp only [bI_0, bI_n, Classical.not_not] at *)
  (try have hq := ‹GO (s.2 6) (s.2 7) _ _ _ _›)
  (try have hq := hI.2.1)
  (try have hx := GO_at hq (x := a1) (by omega) (by omega))
  (try have hN2 : 0 < s.2 6 2 := lOK_N ht hl (by omega))
  (try have hy := GO_at hq (x := x6) (by omega) (by omega))
  (try have hh := GO_home hq (by assumption))
  (try have hb := many_b (fun x => hm (nx (s.2 6) (s.2 7)) x = x3) x6.toNat)
  (try have hm1 := max_hit (lo := 0) (f := hTl (nx (s.2 6) (s.2 7)) x3) (k := x6) (by omega))
  (try have hm2 := max_not (lo := 0) (f := hTl (nx (s.2 6) (s.2 7)) x3) (k := x6) (by omega))
  (try have hm3 := max_lo 0 (hTl (nx (s.2 6) (s.2 7)) x3) x6.toNat)
  (try unfold lex3)
  (try simp only [bI_0, bI_n, Classical.not_not] at *)
  (try simp (disch := omega) only [i32_id] at *)
  first | done | omega | ((repeat' (with_reducible apply And.intro)) <;> first | assumption | rfl | omega | (exact hI.1) | (exact hI.2.1) | (exact hq) | (unfold rRound; rw [if_neg (by omega)]) | (unfold rRound; rw [if_pos (by omega), if_pos (by omega)]; omega) | (unfold rRound; rw [if_pos (by omega), if_neg (by omega), if_pos (by omega), ← hh.1]; exact (hh.2.resolve_left (by omega)).2.2) | (exact hh.1) | (unfold rRound; rw [if_pos (by omega), if_neg (by omega), if_neg (by omega), if_pos (by omega), ← hI.2.2.2.2.1.1, hI.2.2.2.2.2.1, show x6 = s.2 6 2 by omega]) | (unfold rRound; rw [if_pos (by omega), if_neg (by omega), if_neg (by omega), if_neg (by omega), ← hI.2.2.2.2.1.1, hI.2.2.2.2.2.2, show x6 = s.2 6 2 by omega]) | (have e9 : hTl (nx (s.2 6) (s.2 7)) x3 x6 = tl (nx (s.2 6) (s.2 7)) x6 := hTl_y (by rw [← hy.2.1.1]; assumption); omega) | (have e9 : hTl (nx (s.2 6) (s.2 7)) x3 x6 = 0 := hTl_n (by rw [← hy.2.1.1]; assumption); omega) | (have h9 := many_t (p := fun x => hm (nx (s.2 6) (s.2 7)) x = x3) (k := x6) (by omega) (by rw [← hy.2.1.1]; assumption); omega) | (have h9 := many_f (p := fun x => hm (nx (s.2 6) (s.2 7)) x = x3) (k := x6) (by omega) (by rw [← hy.2.1.1]; assumption); omega) | (have h9 : many (fun x => hm (nx (s.2 6) (s.2 7)) x = x3) (0 : Int).toNat = 0 := rfl; omega) | grind [upI])
theorem vX3_round_19 (s : MS) (a1 : Int) (a2 : Int) (hp : tOK (s.2 6) ∧ aOK (s.2 6) (s.2 7) ∧ lOK ((s.2 5) 0) (s.2 6) ∧ (-2147483648 ≤ a1 ∧ a1 < 2147483648)) (c_2 : ¬ (bI (0 < (s.2 5) 0)) = 0) (c_4 : ¬ (bI ((0 : Int) ≤ a2 ∧ a2 ≤ (3 : Int))) = 0) (o_5 : (tOK (s.2 6) ∧ aOK (s.2 6) (s.2 7))) (f_6 : Int → Int) (f_7 : Int → Int) (f_8 : Int → Int) (f_9 : Int → Int) (f_10 : Int → Int) (f_11 : Int → Int) (f_12 : Int → Int) (k_13 : Int) (q_14 : (GO (s.2 6) (s.2 7) f_8 f_9 f_10 f_11)) (o_15 : (tOK (s.2 6) ∧ (-2147483648 ≤ a1 ∧ a1 < 2147483648))) (r_16 : Int) (q_17 : (isNth (fun x => f_10 x = x) ((s.2 6) 2) a1 r_16)) (c_18 : ¬ r_16 = (-1)) (c_19 : a2 = 0) : r_16 = (rRound ((s.2 5) 0) (s.2 6) (s.2 7) a1 a2) := by
  obtain ⟨ht, ha, hl, hi⟩ := hp
  have hN := tOK_N ht
  have hg := nx_rng (s.2 6) (s.2 7)
  (try simp only [bI_0, bI_n, Classical.not_not] at *)
  (try have hq := ‹GO (s.2 6) (s.2 7) _ _ _ _›)
  (try have hq := hI.2.1)
  (try have hx := GO_at hq (x := a1) (by omega) (by omega))
  (try have hN2 : 0 < s.2 6 2 := lOK_N ht hl (by omega))
  (try have hy := GO_at hq (x := x6) (by omega) (by omega))
  (try have hh := GO_home hq (by assumption))
  (try have hb := many_b (fun x => hm (nx (s.2 6) (s.2 7)) x = x3) x6.toNat)
  (try have hm1 := max_hit (lo := 0) (f := hTl (nx (s.2 6) (s.2 7)) x3) (k := x6) (by omega))
  (try have hm2 := max_not (lo := 0) (f := hTl (nx (s.2 6) (s.2 7)) x3) (k := x6) (by omega))
  (try have hm3 := max_lo 0 (hTl (nx (s.2 6) (s.2 7)) x3) x6.toNat)
  (try unfold lex3)
  (try simp only [bI_0, bI_n, Classical.not_not] at *)
  (try simp (disch := omega) only [i32_id] at *)
  first | done | omega | ((repeat' (with_reducible apply And.intro)) <;> first | assumption | rfl | omega | (exact hI.1) | (exact hI.2.1) | (exact hq) | (unfold rRound; rw [if_neg (by omega)]) | (unfold rRound; rw [if_pos (by omega), if_pos (by omega)]; omega) | (unfold rRound; rw [if_pos (by omega), if_neg (by omega), if_pos (by omega), ← hh.1]; exact (hh.2.resolve_left (by omega)).2.2) | (exact hh.1) | (unfold rRound; rw [if_pos (by omega), if_neg (by omega), if_neg (by omega), if_pos (by omega), ← hI.2.2.2.2.1.1, hI.2.2.2.2.2.1, show x6 = s.2 6 2 by omega]) | (unfold rRound; rw [if_pos (by omega), if_neg (by omega), if_neg (by omega), if_neg (by omega), ← hI.2.2.2.2.1.1, hI.2.2.2.2.2.2, show x6 = s.2 6 2 by omega]) | (have e9 : hTl (nx (s.2 6) (s.2 7)) x3 x6 = tl (nx (s.2 6) (s.2 7)) x6 := hTl_y (by rw [← hy.2.1.1]; assumption); omega) | (have e9 : hTl (nx (s.2 6) (s.2 7)) x3 x6 = 0 := hTl_n (by rw [← hy.2.1.1]; assumption); omega) | (have h9 := many_t (p := fun x => hm (nx (s.2 6) (s.2 7)) x = x3) (k := x6) (by omega) (by rw [← hy.2.1.1]; assumption); omega) | (have h9 := many_f (p := fun x => hm (nx (s.2 6) (s.2 7)) x = x3) (k := x6) (by omega) (by rw [← hy.2.1.1]; assumption); omega) | (have h9 : many (fun x => hm (nx (s.2 6) (s.2 7)) x = x3) (0 : Int).toNat = 0 := rfl; omega) | grind [upI])
theorem vX3_round_20 (s : MS) (a1 : Int) (a2 : Int) (hp : tOK (s.2 6) ∧ aOK (s.2 6) (s.2 7) ∧ lOK ((s.2 5) 0) (s.2 6) ∧ (-2147483648 ≤ a1 ∧ a1 < 2147483648)) (c_2 : ¬ (bI (0 < (s.2 5) 0)) = 0) (c_4 : (bI ((0 : Int) ≤ a2 ∧ a2 ≤ (3 : Int))) = 0) : (-2) = (rRound ((s.2 5) 0) (s.2 6) (s.2 7) a1 a2) := by
  obtain ⟨ht, ha, hl, hi⟩ := hp
  have hN := tOK_N ht
  have hg := nx_rng (s.2 6) (s.2 7)
  (try simp only [bI_0, bI_n, Classical.not_not] at *)
  (try have hq := ‹GO (s.2 6) (s.2 7) _ _ _ _›)
  (try have hq := hI.2.1)
  (try have hx := GO_at hq (x := a1) (by omega) (by omega))
  (try have hN2 : 0 < s.2 6 2 := lOK_N ht hl (by omega))
  (try have hy := GO_at hq (x := x6) (by omega) (by omega))
  (try have hh := GO_home hq (by assumption))
  (try have hb := many_b (fun x => hm (nx (s.2 6) (s.2 7)) x = x3) x6.toNat)
  (try have hm1 := max_hit (lo := 0) (f := hTl (nx (s.2 6) (s.2 7)) x3) (k := x6) (by omega))
  (try have hm2 := max_not (lo := 0) (f := hTl (nx (s.2 6) (s.2 7)) x3) (k := x6) (by omega))
  (try have hm3 := max_lo 0 (hTl (nx (s.2 6) (s.2 7)) x3) x6.toNat)
  (try unfold lex3)
  (try simp only [bI_0, bI_n, Classical.not_not] at *)
  (try simp (disch := omega) only [i32_id] at *)
  first | done | omega | ((repeat' (with_reducible apply And.intro)) <;> first | assumption | rfl | omega | (exact hI.1) | (exact hI.2.1) | (exact hq) | (unfold rRound; rw [if_neg (by omega)]) | (unfold rRound; rw [if_pos (by omega), if_pos (by omega)]; omega) | (unfold rRound; rw [if_pos (by omega), if_neg (by omega), if_pos (by omega), ← hh.1]; exact (hh.2.resolve_left (by omega)).2.2) | (exact hh.1) | (unfold rRound; rw [if_pos (by omega), if_neg (by omega), if_neg (by omega), if_pos (by omega), ← hI.2.2.2.2.1.1, hI.2.2.2.2.2.1, show x6 = s.2 6 2 by omega]) | (unfold rRound; rw [if_pos (by omega), if_neg (by omega), if_neg (by omega), if_neg (by omega), ← hI.2.2.2.2.1.1, hI.2.2.2.2.2.2, show x6 = s.2 6 2 by omega]) | (have e9 : hTl (nx (s.2 6) (s.2 7)) x3 x6 = tl (nx (s.2 6) (s.2 7)) x6 := hTl_y (by rw [← hy.2.1.1]; assumption); omega) | (have e9 : hTl (nx (s.2 6) (s.2 7)) x3 x6 = 0 := hTl_n (by rw [← hy.2.1.1]; assumption); omega) | (have h9 := many_t (p := fun x => hm (nx (s.2 6) (s.2 7)) x = x3) (k := x6) (by omega) (by rw [← hy.2.1.1]; assumption); omega) | (have h9 := many_f (p := fun x => hm (nx (s.2 6) (s.2 7)) x = x3) (k := x6) (by omega) (by rw [← hy.2.1.1]; assumption); omega) | (have h9 : many (fun x => hm (nx (s.2 6) (s.2 7)) x = x3) (0 : Int).toNat = 0 := rfl; omega) | grind [upI])
theorem allX3_round (b : AH) (s : MS) (a1 : Int) (a2 : Int) (hp : tOK (s.2 6) ∧ aOK (s.2 6) (s.2 7) ∧ lOK ((s.2 5) 0) (s.2 6) ∧ (-2147483648 ≤ a1 ∧ a1 < 2147483648)) : ∀ m1 m2 m3 : Nat, (∀ (x2 : Int) (x3 : Int) (x4 : Int) (x5 : Int) (x6 : Int) (f11 : Int → Int) (f12 : Int → Int) (f13 : Int → Int) (f14 : Int → Int) (f15 : Int → Int) (f16 : Int → Int) (f17 : Int → Int) (f18 : Int → Int) (f19 : Int → Int) (k0 : Int) (k25 : Int) (k33 : Int) (k34 : Int), m1 = 0 → m2 = 0 → m3 = ((s.2 6 2 - x6).toNat) → (k0 = 0 ∧ GO (s.2 6) (s.2 7) f13 f14 f15 f16 ∧ (0 < s.2 5 0 ∧ x2 = a2 ∧ 2 ≤ a2 ∧ a2 ≤ 3) ∧ (0 ≤ x6 ∧ x6 ≤ s.2 6 2) ∧ (x3 = homeN (nx (s.2 6) (s.2 7)) (s.2 6 2) a1 ∧ x3 ≠ -1) ∧ x4 = many (fun x => hm (nx (s.2 6) (s.2 7)) x = x3) x6.toNat ∧ x5 = maxI 0 (hTl (nx (s.2 6) (s.2 7)) x3) x6.toNat) → HX3_round_69 (QX3_round s a1 a2) b s x2 x3 x4 x5 x6 f11 f12 f13 f14 f15 f16 f17 f18 f19 k0 k25 k33 k34) := by
  refine lex3_ind ?_
  intro m1 m2 m3 ih
  rintro x2 x3 x4 x5 x6 f11 f12 f13 f14 f15 f16 f17 f18 f19 k0 k25 k33 k34 rfl rfl rfl hI
  refine bX3_round_69 b s x2 x3 x4 x5 x6 f11 f12 f13 f14 f15 f16 f17 f18 f19 k0 k25 k33 k34 ?_
  refine ⟨fun c_1 => ?_, fun c_1 => ?_⟩
  · refine ⟨fun c_2 => ?_, fun c_2 => ?_⟩
    · exact ⟨f11, f12, f13, f14, f15, f16, f17, f18, f19, k25, k33, k34, (rI_c (vX3_round_2 s a1 a2 hp x2 x3 x4 x5 x6 f11 f12 f13 f14 f15 f16 f17 f18 f19 k0 k25 k33 k34 hI c_1 c_2)), (sS_c (sS_c (sS_c (sS_c (sA_c (sA_c (sA_c (sA_c (sA_c (sA_c (sA_c (sA_c (sA_c rfl rfl) rfl) rfl) rfl) rfl) rfl) rfl) rfl) rfl) (vX3_round_1 s a1 a2 hp x2 x3 x4 x5 x6 f11 f12 f13 f14 f15 f16 f17 f18 f19 k0 k25 k33 k34 hI c_1 c_2)) rfl) rfl) rfl)⟩
    · exact ⟨f11, f12, f13, f14, f15, f16, f17, f18, f19, k25, k33, k34, (rI_c (vX3_round_4 s a1 a2 hp x2 x3 x4 x5 x6 f11 f12 f13 f14 f15 f16 f17 f18 f19 k0 k25 k33 k34 hI c_1 c_2)), (sS_c (sS_c (sS_c (sS_c (sA_c (sA_c (sA_c (sA_c (sA_c (sA_c (sA_c (sA_c (sA_c rfl rfl) rfl) rfl) rfl) rfl) rfl) rfl) rfl) rfl) (vX3_round_3 s a1 a2 hp x2 x3 x4 x5 x6 f11 f12 f13 f14 f15 f16 f17 f18 f19 k0 k25 k33 k34 hI c_1 c_2)) rfl) rfl) rfl)⟩
  · have o_3 : (0 ≤ x6 ∧ x6 < 10000) := (vX3_round_5 s a1 a2 hp x2 x3 x4 x5 x6 f11 f12 f13 f14 f15 f16 f17 f18 f19 k0 k25 k33 k34 hI c_1)
    refine ⟨o_3, ?_⟩
    refine ⟨fun c_4 => ?_, fun c_4 => ?_⟩
    · refine ⟨fun c_5 => ?_, fun c_5 => ?_⟩
      · exact (ih _ _ _ (vX3_round_7 s a1 a2 hp x2 x3 x4 x5 x6 f11 f12 f13 f14 f15 f16 f17 f18 f19 k0 k25 k33 k34 hI c_1 o_3 c_4 c_5)) x2 x3 (i32 (x4 + 1)) x5 (i32 (x6 + 1)) f11 f12 f13 f14 f15 f16 f17 f18 f19 k0 k25 k33 k34 rfl rfl rfl (vX3_round_6 s a1 a2 hp x2 x3 x4 x5 x6 f11 f12 f13 f14 f15 f16 f17 f18 f19 k0 k25 k33 k34 hI c_1 o_3 c_4 c_5)
      · exact (ih _ _ _ (vX3_round_9 s a1 a2 hp x2 x3 x4 x5 x6 f11 f12 f13 f14 f15 f16 f17 f18 f19 k0 k25 k33 k34 hI c_1 o_3 c_4 c_5)) x2 x3 (i32 (x4 + 1)) (f14 x6) (i32 (x6 + 1)) f11 f12 f13 f14 f15 f16 f17 f18 f19 k0 k25 k33 k34 rfl rfl rfl (vX3_round_8 s a1 a2 hp x2 x3 x4 x5 x6 f11 f12 f13 f14 f15 f16 f17 f18 f19 k0 k25 k33 k34 hI c_1 o_3 c_4 c_5)
    · exact (ih _ _ _ (vX3_round_11 s a1 a2 hp x2 x3 x4 x5 x6 f11 f12 f13 f14 f15 f16 f17 f18 f19 k0 k25 k33 k34 hI c_1 o_3 c_4)) x2 x3 x4 x5 (i32 (x6 + 1)) f11 f12 f13 f14 f15 f16 f17 f18 f19 k0 k25 k33 k34 rfl rfl rfl (vX3_round_10 s a1 a2 hp x2 x3 x4 x5 x6 f11 f12 f13 f14 f15 f16 f17 f18 f19 k0 k25 k33 k34 hI c_1 o_3 c_4)
theorem ctX3_round (b : AH) (s : MS) (a1 : Int) (a2 : Int) (hp : tOK (s.2 6) ∧ aOK (s.2 6) (s.2 7) ∧ lOK ((s.2 5) 0) (s.2 6) ∧ (-2147483648 ≤ a1 ∧ a1 < 2147483648)) : MC mX3_round 9 b s [vI a1, vI a2] (QX3_round s a1 a2) := by
  refine MC.of (by decide) rfl (Nat.le_of_ble_eq_true rfl) (JW.steq (s2 := sS (sS (sS (sS (sA (sA (sA (sA (sA (sA (sA (sA (sA s 11 (s.2 11)) 12 (s.2 12)) 13 (s.2 13)) 14 (s.2 14)) 15 (s.2 15)) 16 (s.2 16)) 17 (s.2 17)) 18 (s.2 18)) 19 (s.2 19)) 0 (s.1 0)) 25 (s.1 25)) 33 (s.1 33)) 34 (s.1 34)) (by simp only [sA_id, sS_id]) ?_)
  refine bX3_round_0 b s a1 a2 (s.2 11) (s.2 12) (s.2 13) (s.2 14) (s.2 15) (s.2 16) (s.2 17) (s.2 18) (s.2 19) (s.1 0) (s.1 25) (s.1 33) (s.1 34) ?_
  refine ⟨fun c_2 => ?_, fun c_2 => ?_⟩
  · exact ⟨(s.2 11), (s.2 12), (s.2 13), (s.2 14), (s.2 15), (s.2 16), (s.2 17), (s.2 18), (s.2 19), (s.1 25), (s.1 33), (s.1 34), (rI_c (vX3_round_12 s a1 a2 hp c_2)), rfl⟩
  · refine ⟨fun c_4 => ?_, fun c_4 => ?_⟩
    · have o_5 : (tOK (s.2 6) ∧ aOK (s.2 6) (s.2 7)) := (vX3_round_13 s a1 a2 hp c_2 c_4)
      refine ⟨o_5, ?_⟩
      intro f_6 f_7 f_8 f_9 f_10 f_11 f_12 k_13 q_14
      have o_15 : (tOK (s.2 6) ∧ (-2147483648 ≤ a1 ∧ a1 < 2147483648)) := (vX3_round_14 s a1 a2 hp c_2 c_4 o_5 f_6 f_7 f_8 f_9 f_10 f_11 f_12 k_13 q_14)
      refine ⟨o_15, ?_⟩
      intro r_16 q_17
      refine ⟨fun c_18 => ?_, fun c_18 => ?_⟩
      · exact ⟨f_6, f_7, f_8, f_9, f_10, f_11, f_12, (s.2 18), (s.2 19), k_13, (s.1 33), (s.1 34), (rI_c (vX3_round_15 s a1 a2 hp c_2 c_4 o_5 f_6 f_7 f_8 f_9 f_10 f_11 f_12 k_13 q_14 o_15 r_16 q_17 c_18)), rfl⟩
      · refine ⟨fun c_19 => ?_, fun c_19 => ?_⟩
        · refine ⟨fun c_20 => ?_, fun c_20 => ?_⟩
          · exact (allX3_round b s a1 a2 hp _ _ _) a2 r_16 0 0 0 f_6 f_7 f_8 f_9 f_10 f_11 f_12 (s.2 18) (s.2 19) 0 k_13 (s.1 33) (s.1 34) rfl rfl rfl (vX3_round_16 s a1 a2 hp c_2 c_4 o_5 f_6 f_7 f_8 f_9 f_10 f_11 f_12 k_13 q_14 o_15 r_16 q_17 c_18 c_19 c_20)
          · have o_21 : (0 ≤ r_16 ∧ r_16 < 10000) := (vX3_round_17 s a1 a2 hp c_2 c_4 o_5 f_6 f_7 f_8 f_9 f_10 f_11 f_12 k_13 q_14 o_15 r_16 q_17 c_18 c_19 c_20)
            refine ⟨o_21, ?_⟩
            exact ⟨f_6, f_7, f_8, f_9, f_10, f_11, f_12, (s.2 18), (s.2 19), k_13, (s.1 33), (s.1 34), (rI_c (vX3_round_18 s a1 a2 hp c_2 c_4 o_5 f_6 f_7 f_8 f_9 f_10 f_11 f_12 k_13 q_14 o_15 r_16 q_17 c_18 c_19 c_20 o_21)), rfl⟩
        · exact ⟨f_6, f_7, f_8, f_9, f_10, f_11, f_12, (s.2 18), (s.2 19), k_13, (s.1 33), (s.1 34), (rI_c (vX3_round_19 s a1 a2 hp c_2 c_4 o_5 f_6 f_7 f_8 f_9 f_10 f_11 f_12 k_13 q_14 o_15 r_16 q_17 c_18 c_19)), rfl⟩
    · exact ⟨(s.2 11), (s.2 12), (s.2 13), (s.2 14), (s.2 15), (s.2 16), (s.2 17), (s.2 18), (s.2 19), (s.1 25), (s.1 33), (s.1 34), (rI_c (vX3_round_20 s a1 a2 hp c_2 c_4)), rfl⟩
def HX3_on_0 (Q : Option AV → MS → Prop) (b : AH) (s : MS) (x1 : Int) (x2 : Int) (f11 : Int → Int) (f12 : Int → Int) (f13 : Int → Int) (f14 : Int → Int) (f15 : Int → Int) (f16 : Int → Int) (f17 : Int → Int) (f18 : Int → Int) (f19 : Int → Int) (k0 : Int) (k25 : Int) (k33 : Int) (k34 : Int) : Prop := MW mX3_on 9 Q b 0 [(0, vR 351), (1, vI x1), (2, vI x2)] [] (sS (sS (sS (sS (sA (sA (sA (sA (sA (sA (sA (sA (sA s 11 f11) 12 f12) 13 f13) 14 f14) 15 f15) 16 f16) 17 f17) 18 f18) 19 f19) 0 k0) 25 k25) 33 k33) 34 k34)
theorem bX3_on_0 {Q : Option AV → MS → Prop} (b : AH) (s : MS) (x1 : Int) (x2 : Int) (f11 : Int → Int) (f12 : Int → Int) (f13 : Int → Int) (f14 : Int → Int) (f15 : Int → Int) (f16 : Int → Int) (f17 : Int → Int) (f18 : Int → Int) (f19 : Int → Int) (k0 : Int) (k25 : Int) (k33 : Int) (k34 : Int) (K : (¬ (bI (0 < (s.2 5) 0)) = 0 → (tOK (s.2 6) ∧ aOK (s.2 6) (s.2 7)) ∧ ((∀ (f_4 : Int → Int) (f_5 : Int → Int) (f_6 : Int → Int) (f_7 : Int → Int) (f_8 : Int → Int) (f_9 : Int → Int) (f_10 : Int → Int) (k_11 : Int), (GO (s.2 6) (s.2 7) f_6 f_7 f_8 f_9) → (tOK (s.2 6) ∧ (-2147483648 ≤ x1 ∧ x1 < 2147483648)) ∧ ((∀ (r_14 : Int), (isNth (fun x => f_8 x = x) ((s.2 6) 2) x1 r_14) → (r_14 = (-1) → Q (some (vI (-1))) (sS (sS (sS (sS (sA (sA (sA (sA (sA (sA (sA (sA (sA s 11 f_4) 12 f_5) 13 f_6) 14 f_7) 15 f_8) 16 f_9) 17 f_10) 18 f18) 19 f19) 0 0) 25 k_11) 33 k33) 34 k34)) ∧ (¬ r_14 = (-1) → (0 ≤ r_14 ∧ r_14 < 10000) ∧ ((¬ (bI ((0 : Int) ≤ x2 ∧ x2 ≤ (i32 ((f_9 r_14) - 1)))) = 0 → (rng f_6 ((s.2 6) 2) ∧ (s.2 6) 2 ≤ 10000 ∧ 0 ≤ r_14 ∧ r_14 < (s.2 6) 2 ∧ 0 ≤ x2 ∧ x2 ≤ 1000000000) ∧ (Q (some (vI (it f_6 r_14 (x2).toNat))) (sS (sS (sS (sS (sA (sA (sA (sA (sA (sA (sA (sA (sA s 11 f_4) 12 f_5) 13 f_6) 14 f_7) 15 f_8) 16 f_9) 17 f_10) 18 f18) 19 f19) 0 0) 25 k_11) 33 k33) 34 k34))) ∧ ((bI ((0 : Int) ≤ x2 ∧ x2 ≤ (i32 ((f_9 r_14) - 1)))) = 0 → Q (some (vI (-1))) (sS (sS (sS (sS (sA (sA (sA (sA (sA (sA (sA (sA (sA s 11 f_4) 12 f_5) 13 f_6) 14 f_7) 15 f_8) 16 f_9) 17 f_10) 18 f18) 19 f19) 0 0) 25 k_11) 33 k33) 34 k34))))))))) ∧ ((bI (0 < (s.2 5) 0)) = 0 → Q (some (vI (-2))) (sS (sS (sS (sS (sA (sA (sA (sA (sA (sA (sA (sA (sA s 11 f11) 12 f12) 13 f13) 14 f14) 15 f15) 16 f16) 17 f17) 18 f18) 19 f19) 0 0) 25 k25) 33 k33) 34 k34))) : HX3_on_0 Q b s x1 x2 f11 f12 f13 f14 f15 f16 f17 f18 f19 k0 k25 k33 k34 := by
  refine JW.aload_n dX3_on_0 rfl ?_
  refine JW.iconst dX3_on_1 rfl ?_
  refine JW.mputI dX3_on_2 (pX3_77 _) rfl ?_
  refine JW.steq (s2 := sS (sS (sS (sS (sA (sA (sA (sA (sA (sA (sA (sA (sA s 11 f11) 12 f12) 13 f13) 14 f14) 15 f15) 16 f16) 17 f17) 18 f18) 19 f19) 0 0) 25 k25) 33 k33) 34 k34) (by simp only [sA_A, sS_S, sA_S, sA_lt, sS_lt, Nat.reduceLT, id_eq] <;> rfl) ?_
  refine JW.aload_n dX3_on_5 rfl ?_
  refine JW.mcall (As := []) dX3_on_6 vX3_isTable rfl q1798 (ctX3_isTable b (sS (sS (sS (sS (sA (sA (sA (sA (sA (sA (sA (sA (sA s 11 f11) 12 f12) 13 f13) 14 f14) 15 f15) 16 f16) 17 f17) 18 f18) 19 f19) 0 0) 25 k25) 33 k33) 34 k34)) (Nat.le_of_ble_eq_true rfl) rfl (Nat.le_of_ble_eq_true rfl) ?_
  rintro _ _ ⟨rfl, eq_1⟩
  refine JW.steq (s2 := sS (sS (sS (sS (sA (sA (sA (sA (sA (sA (sA (sA (sA s 11 f11) 12 f12) 13 f13) 14 f14) 15 f15) 16 f16) 17 f17) 18 f18) 19 f19) 0 0) 25 k25) 33 k33) 34 k34) eq_1 ?_
  refine JW.if_ne (tgt := 15) dX3_on_9 rfl (fun c_2 => ?_) (fun c_2 => ?_)
  · have K := K.1 c_2
    refine JW.aload_n dX3_on_15 rfl ?_
    obtain ⟨o_3, K⟩ := K
    refine JW.mcall (As := []) dX3_on_16 vX3_all rfl q1863 (ctX3_all b (sS (sS (sS (sS (sA (sA (sA (sA (sA (sA (sA (sA (sA s 11 f11) 12 f12) 13 f13) 14 f14) 15 f15) 16 f16) 17 f17) 18 f18) 19 f19) 0 0) 25 k25) 33 k33) 34 k34) o_3) (Nat.le_of_ble_eq_true rfl) rfl (Nat.le_of_ble_eq_true rfl) ?_
    rintro _ _ ⟨f_4, f_5, f_6, f_7, f_8, f_9, f_10, k_11, rfl, rfl, q_12⟩
    refine JW.steq (s2 := sS (sS (sS (sS (sA (sA (sA (sA (sA (sA (sA (sA (sA s 11 f_4) 12 f_5) 13 f_6) 14 f_7) 15 f_8) 16 f_9) 17 f_10) 18 f18) 19 f19) 0 0) 25 k_11) 33 k33) 34 k34) (by simp only [sA_A, sS_S, sA_S, sA_lt, sS_lt, Nat.reduceLT, id_eq] <;> rfl) ?_
    replace K := K f_4 f_5 f_6 f_7 f_8 f_9 f_10 k_11 q_12
    refine JW.aload_n dX3_on_19 rfl ?_
    refine JW.iload_n dX3_on_20 rfl ?_
    obtain ⟨o_13, K⟩ := K
    refine JW.mcall (As := [vI x1]) dX3_on_21 vX3_homeOf rfl q1911 (ctX3_homeOf b (sS (sS (sS (sS (sA (sA (sA (sA (sA (sA (sA (sA (sA s 11 f_4) 12 f_5) 13 f_6) 14 f_7) 15 f_8) 16 f_9) 17 f_10) 18 f18) 19 f19) 0 0) 25 k_11) 33 k33) 34 k34) x1 o_13) (Nat.le_of_ble_eq_true rfl) rfl (Nat.le_of_ble_eq_true rfl) ?_
    rintro _ _ ⟨r_14, rfl, eq_15, q_15⟩
    refine JW.steq (s2 := sS (sS (sS (sS (sA (sA (sA (sA (sA (sA (sA (sA (sA s 11 f_4) 12 f_5) 13 f_6) 14 f_7) 15 f_8) 16 f_9) 17 f_10) 18 f18) 19 f19) 0 0) 25 k_11) 33 k33) 34 k34) eq_15 ?_
    replace K := K r_14 q_15
    refine JW.istore_n (ls' := [(0, vR 351), (1, vI x1), (2, vI x2), (3, vI r_14)]) dX3_on_24 (Nat.le_of_ble_eq_true rfl) rfl ?_
    refine JW.iload_n dX3_on_25 rfl ?_
    refine JW.iconst dX3_on_26 rfl ?_
    refine JW.icmp_eq (tgt := 48) dX3_on_27 rfl (fun c_16 => ?_) (fun c_16 => ?_)
    · have K := K.1 c_16
      refine JW.iconst dX3_on_48 rfl ?_
      refine JW.goto (tgt := 58) dX3_on_49 rfl ?_
      exact JW.ireturn dX3_on_58 rfl rfl ⟨_, rfl, K⟩
    · have K := K.2 c_16
      refine JW.iload_n dX3_on_30 rfl ?_
      refine JW.i2l dX3_on_31 ?_
      refine JW.lconst (x := 0) dX3_on_32 rfl ?_
      refine JW.aload_n dX3_on_33 rfl ?_
      refine JW.mget (v := vR 368) dX3_on_34 fX3_65 rfl ?_
      refine JW.iload_n dX3_on_37 rfl ?_
      obtain ⟨o_17, K⟩ := K
      refine JW.mald 16 (x := (f_9 r_14)) dX3_on_38 (Nat.le_of_ble_eq_true rfl) rfl o_17.1 o_17.2 rfl ?_
      refine JW.iconst dX3_on_39 rfl ?_
      refine JW.isub dX3_on_40 ?_
      refine JW.i2l dX3_on_41 ?_
      refine JW.mcallS (As := [vL x2, vL 0, vL (i32 ((f_9 r_14) - 1))]) dX3_on_42 vX3_in q1632 (ctX3_in b (sS (sS (sS (sS (sA (sA (sA (sA (sA (sA (sA (sA (sA s 11 f_4) 12 f_5) 13 f_6) 14 f_7) 15 f_8) 16 f_9) 17 f_10) 18 f18) 19 f19) 0 0) 25 k_11) 33 k33) 34 k34) x2 0 (i32 ((f_9 r_14) - 1))) (Nat.le_of_ble_eq_true rfl) rfl (Nat.le_of_ble_eq_true rfl) ?_
      rintro _ _ ⟨rfl, eq_18⟩
      refine JW.steq (s2 := sS (sS (sS (sS (sA (sA (sA (sA (sA (sA (sA (sA (sA s 11 f_4) 12 f_5) 13 f_6) 14 f_7) 15 f_8) 16 f_9) 17 f_10) 18 f18) 19 f19) 0 0) 25 k_11) 33 k33) 34 k34) eq_18 ?_
      refine JW.if_ne (tgt := 52) dX3_on_45 rfl (fun c_19 => ?_) (fun c_19 => ?_)
      · have K := K.1 c_19
        refine JW.aload_n dX3_on_52 rfl ?_
        refine JW.iload_n dX3_on_53 rfl ?_
        refine JW.iload_n dX3_on_54 rfl ?_
        obtain ⟨o_20, K⟩ := K
        refine JW.mcall (As := [vI r_14, vI x2]) dX3_on_55 vX3_behind rfl q1883 (ctX3_behind b (sS (sS (sS (sS (sA (sA (sA (sA (sA (sA (sA (sA (sA s 11 f_4) 12 f_5) 13 f_6) 14 f_7) 15 f_8) 16 f_9) 17 f_10) 18 f18) 19 f19) 0 0) 25 k_11) 33 k33) 34 k34) r_14 x2 o_20) (Nat.le_of_ble_eq_true rfl) rfl (Nat.le_of_ble_eq_true rfl) ?_
        rintro _ _ ⟨rfl, eq_21⟩
        refine JW.steq (s2 := sS (sS (sS (sS (sA (sA (sA (sA (sA (sA (sA (sA (sA s 11 f_4) 12 f_5) 13 f_6) 14 f_7) 15 f_8) 16 f_9) 17 f_10) 18 f18) 19 f19) 0 0) 25 k_11) 33 k33) 34 k34) eq_21 ?_
        exact JW.ireturn dX3_on_58 rfl rfl ⟨_, rfl, K⟩
      · have K := K.2 c_19
        refine JW.iconst dX3_on_48 rfl ?_
        refine JW.goto (tgt := 58) dX3_on_49 rfl ?_
        exact JW.ireturn dX3_on_58 rfl rfl ⟨_, rfl, K⟩
  · have K := K.2 c_2
    refine JW.bipush dX3_on_12 rfl ?_
    exact JW.ireturn dX3_on_14 rfl rfl ⟨_, rfl, K⟩
def QX3_on (s : MS) (a1 : Int) (a2 : Int) : Option AV → MS → Prop := fun v s' => ∃ (f11 : Int → Int) (f12 : Int → Int) (f13 : Int → Int) (f14 : Int → Int) (f15 : Int → Int) (f16 : Int → Int) (f17 : Int → Int) (f18 : Int → Int) (f19 : Int → Int) (k25 : Int) (k33 : Int) (k34 : Int), v = some (vI (rOn ((s.2 5) 0) (s.2 6) (s.2 7) a1 a2)) ∧ s' = sS (sS (sS (sS (sA (sA (sA (sA (sA (sA (sA (sA (sA s 11 f11) 12 f12) 13 f13) 14 f14) 15 f15) 16 f16) 17 f17) 18 f18) 19 f19) 0 (0)) 25 k25) 33 k33) 34 k34
theorem vX3_on_1 (s : MS) (a1 : Int) (a2 : Int) (hp : tOK (s.2 6) ∧ aOK (s.2 6) (s.2 7) ∧ lOK ((s.2 5) 0) (s.2 6) ∧ (-2147483648 ≤ a1 ∧ a1 < 2147483648)) (c_2 : ¬ (bI (0 < (s.2 5) 0)) = 0) : (tOK (s.2 6) ∧ aOK (s.2 6) (s.2 7)) := by
  obtain ⟨ht, ha, hl, hi⟩ := hp
  have hN := tOK_N ht
  have hg := nx_rng (s.2 6) (s.2 7)
  (try simp only [bI_0, bI_n, Classical.not_not] at *)
  (try have hq := ‹GO (s.2 6) (s.2 7) _ _ _ _›)
  (try have hq := hI.2.1)
  (try have hx := GO_at hq (x := a1) (by omega) (by omega))
  (try have hN2 : 0 < s.2 6 2 := lOK_N ht hl (by omega))
  (try have hh := GO_home hq (by assumption))
  (try (have hz := hh.2.resolve_left c_16; obtain ⟨⟨hk0, hk1⟩, hcy, her⟩ := hz))
  (try (have hr := rg_le hg hk0 hk1 hcy; have hr2 := (rg_sp hcy).1))
  (try rw [her, i32_id (by omega) (by omega)] at c_19)
  (try unfold lex3)
  (try simp only [bI_0, bI_n, Classical.not_not] at *)
  (try simp (disch := omega) only [i32_id] at *)
  first | done | omega | ((repeat' (with_reducible apply And.intro)) <;> first | assumption | rfl | omega | (unfold rOn; rw [if_neg (by omega)]) | (exact NXO_rng (GO_n hq)) | (unfold rOn; rw [if_pos (by omega), ← hh.1, if_pos (by omega)]) | (unfold rOn; rw [if_pos (by omega), ← hh.1, if_neg (by omega)]; exact NXO_it (GO_n hq) (by omega) (by omega) _) | grind [upI])
theorem vX3_on_2 (s : MS) (a1 : Int) (a2 : Int) (hp : tOK (s.2 6) ∧ aOK (s.2 6) (s.2 7) ∧ lOK ((s.2 5) 0) (s.2 6) ∧ (-2147483648 ≤ a1 ∧ a1 < 2147483648)) (c_2 : ¬ (bI (0 < (s.2 5) 0)) = 0) (o_3 : (tOK (s.2 6) ∧ aOK (s.2 6) (s.2 7))) (f_4 : Int → Int) (f_5 : Int → Int) (f_6 : Int → Int) (f_7 : Int → Int) (f_8 : Int → Int) (f_9 : Int → Int) (f_10 : Int → Int) (k_11 : Int) (q_12 : (GO (s.2 6) (s.2 7) f_6 f_7 f_8 f_9)) : (tOK (s.2 6) ∧ (-2147483648 ≤ a1 ∧ a1 < 2147483648)) := by
  obtain ⟨ht, ha, hl, hi⟩ := hp
  have hN := tOK_N ht
  have hg := nx_rng (s.2 6) (s.2 7)
  (try simp only [bI_0, bI_n, Classical.not_not] at *)
  (try have hq := ‹GO (s.2 6) (s.2 7) _ _ _ _›)
  (try have hq := hI.2.1)
  (try have hx := GO_at hq (x := a1) (by omega) (by omega))
  (try have hN2 : 0 < s.2 6 2 := lOK_N ht hl (by omega))
  (try have hh := GO_home hq (by assumption))
  (try (have hz := hh.2.resolve_left c_16; obtain ⟨⟨hk0, hk1⟩, hcy, her⟩ := hz))
  (try (have hr := rg_le hg hk0 hk1 hcy; have hr2 := (rg_sp hcy).1))
  (try rw [her, i32_id (by omega) (by omega)] at c_19)
  (try unfold lex3)
  (try simp only [bI_0, bI_n, Classical.not_not] at *)
  (try simp (disch := omega) only [i32_id] at *)
  first | done | omega | ((repeat' (with_reducible apply And.intro)) <;> first | assumption | rfl | omega | (unfold rOn; rw [if_neg (by omega)]) | (exact NXO_rng (GO_n hq)) | (unfold rOn; rw [if_pos (by omega), ← hh.1, if_pos (by omega)]) | (unfold rOn; rw [if_pos (by omega), ← hh.1, if_neg (by omega)]; exact NXO_it (GO_n hq) (by omega) (by omega) _) | grind [upI])
theorem vX3_on_3 (s : MS) (a1 : Int) (a2 : Int) (hp : tOK (s.2 6) ∧ aOK (s.2 6) (s.2 7) ∧ lOK ((s.2 5) 0) (s.2 6) ∧ (-2147483648 ≤ a1 ∧ a1 < 2147483648)) (c_2 : ¬ (bI (0 < (s.2 5) 0)) = 0) (o_3 : (tOK (s.2 6) ∧ aOK (s.2 6) (s.2 7))) (f_4 : Int → Int) (f_5 : Int → Int) (f_6 : Int → Int) (f_7 : Int → Int) (f_8 : Int → Int) (f_9 : Int → Int) (f_10 : Int → Int) (k_11 : Int) (q_12 : (GO (s.2 6) (s.2 7) f_6 f_7 f_8 f_9)) (o_13 : (tOK (s.2 6) ∧ (-2147483648 ≤ a1 ∧ a1 < 2147483648))) (r_14 : Int) (q_15 : (isNth (fun x => f_8 x = x) ((s.2 6) 2) a1 r_14)) (c_16 : r_14 = (-1)) : (-1) = (rOn ((s.2 5) 0) (s.2 6) (s.2 7) a1 a2) := by
  obtain ⟨ht, ha, hl, hi⟩ := hp
  have hN := tOK_N ht
  have hg := nx_rng (s.2 6) (s.2 7)
  (try simp only [bI_0, bI_n, Classical.not_not] at *)
  (try have hq := ‹GO (s.2 6) (s.2 7) _ _ _ _›)
  (try have hq := hI.2.1)
  (try have hx := GO_at hq (x := a1) (by omega) (by omega))
  (try have hN2 : 0 < s.2 6 2 := lOK_N ht hl (by omega))
  (try have hh := GO_home hq (by assumption))
  (try (have hz := hh.2.resolve_left c_16; obtain ⟨⟨hk0, hk1⟩, hcy, her⟩ := hz))
  (try (have hr := rg_le hg hk0 hk1 hcy; have hr2 := (rg_sp hcy).1))
  (try rw [her, i32_id (by omega) (by omega)] at c_19)
  (try unfold lex3)
  (try simp only [bI_0, bI_n, Classical.not_not] at *)
  (try simp (disch := omega) only [i32_id] at *)
  first | done | omega | ((repeat' (with_reducible apply And.intro)) <;> first | assumption | rfl | omega | (unfold rOn; rw [if_neg (by omega)]) | (exact NXO_rng (GO_n hq)) | (unfold rOn; rw [if_pos (by omega), ← hh.1, if_pos (by omega)]) | (unfold rOn; rw [if_pos (by omega), ← hh.1, if_neg (by omega)]; exact NXO_it (GO_n hq) (by omega) (by omega) _) | grind [upI])
theorem vX3_on_4 (s : MS) (a1 : Int) (a2 : Int) (hp : tOK (s.2 6) ∧ aOK (s.2 6) (s.2 7) ∧ lOK ((s.2 5) 0) (s.2 6) ∧ (-2147483648 ≤ a1 ∧ a1 < 2147483648)) (c_2 : ¬ (bI (0 < (s.2 5) 0)) = 0) (o_3 : (tOK (s.2 6) ∧ aOK (s.2 6) (s.2 7))) (f_4 : Int → Int) (f_5 : Int → Int) (f_6 : Int → Int) (f_7 : Int → Int) (f_8 : Int → Int) (f_9 : Int → Int) (f_10 : Int → Int) (k_11 : Int) (q_12 : (GO (s.2 6) (s.2 7) f_6 f_7 f_8 f_9)) (o_13 : (tOK (s.2 6) ∧ (-2147483648 ≤ a1 ∧ a1 < 2147483648))) (r_14 : Int) (q_15 : (isNth (fun x => f_8 x = x) ((s.2 6) 2) a1 r_14)) (c_16 : ¬ r_14 = (-1)) : (0 ≤ r_14 ∧ r_14 < 10000) := by
  obtain ⟨ht, ha, hl, hi⟩ := hp
  have hN := tOK_N ht
  have hg := nx_rng (s.2 6) (s.2 7)
  (try simp only [bI_0, bI_n, Classical.not_not] at *)
  (try have hq := ‹GO (s.2 6) (s.2 7) _ _ _ _›)
  (try have hq := hI.2.1)
  (try have hx := GO_at hq (x := a1) (by omega) (by omega))
  (try have hN2 : 0 < s.2 6 2 := lOK_N ht hl (by omega))
  (try have hh := GO_home hq (by assumption))
  (try (have hz := hh.2.resolve_left c_16; obtain ⟨⟨hk0, hk1⟩, hcy, her⟩ := hz))
  (try (have hr := rg_le hg hk0 hk1 hcy; have hr2 := (rg_sp hcy).1))
  (try rw [her, i32_id (by omega) (by omega)] at c_19)
  (try unfold lex3)
  (try simp only [bI_0, bI_n, Classical.not_not] at *)
  (try simp (disch := omega) only [i32_id] at *)
  first | done | omega | ((repeat' (with_reducible apply And.intro)) <;> first | assumption | rfl | omega | (unfold rOn; rw [if_neg (by omega)]) | (exact NXO_rng (GO_n hq)) | (unfold rOn; rw [if_pos (by omega), ← hh.1, if_pos (by omega)]) | (unfold rOn; rw [if_pos (by omega), ← hh.1, if_neg (by omega)]; exact NXO_it (GO_n hq) (by omega) (by omega) _) | grind [upI])
theorem vX3_on_5 (s : MS) (a1 : Int) (a2 : Int) (hp : tOK (s.2 6) ∧ aOK (s.2 6) (s.2 7) ∧ lOK ((s.2 5) 0) (s.2 6) ∧ (-2147483648 ≤ a1 ∧ a1 < 2147483648)) (c_2 : ¬ (bI (0 < (s.2 5) 0)) = 0) (o_3 : (tOK (s.2 6) ∧ aOK (s.2 6) (s.2 7))) (f_4 : Int → Int) (f_5 : Int → Int) (f_6 : Int → Int) (f_7 : Int → Int) (f_8 : Int → Int) (f_9 : Int → Int) (f_10 : Int → Int) (k_11 : Int) (q_12 : (GO (s.2 6) (s.2 7) f_6 f_7 f_8 f_9)) (o_13 : (tOK (s.2 6) ∧ (-2147483648 ≤ a1 ∧ a1 < 2147483648))) (r_14 : Int) (q_15 : (isNth (fun x => f_8 x = x) ((s.2 6) 2) a1 r_14)) (c_16 : ¬ r_14 = (-1)) (o_17 : (0 ≤ r_14 ∧ r_14 < 10000)) (c_19 : ¬ (bI ((0 : Int) ≤ a2 ∧ a2 ≤ (i32 ((f_9 r_14) - 1)))) = 0) : (rng f_6 ((s.2 6) 2) ∧ (s.2 6) 2 ≤ 10000 ∧ 0 ≤ r_14 ∧ r_14 < (s.2 6) 2 ∧ 0 ≤ a2 ∧ a2 ≤ 1000000000) := by
  obtain ⟨ht, ha, hl, hi⟩ := hp
  have hN := tOK_N ht
  have hg := nx_rng (s.2 6) (s.2 7)
  (try simp only [bI_0, bI_n, Classical.not_not] at *)
  (try have hq := ‹GO (s.2 6) (s.2 7) _ _ _ _›)
  (try have hq := hI.2.1)
  (try have hx := GO_at hq (x := a1) (by omega) (by omega))
  (try have hN2 : 0 < s.2 6 2 := lOK_N ht hl (by omega))
  (try have hh := GO_home hq (by assumption))
  (try (have hz := hh.2.resolve_left c_16; obtain ⟨⟨hk0, hk1⟩, hcy, her⟩ := hz))
  (try (have hr := rg_le hg hk0 hk1 hcy; have hr2 := (rg_sp hcy).1))
  (try rw [her, i32_id (by omega) (by omega)] at c_19)
  (try unfold lex3)
  (try simp only [bI_0, bI_n, Classical.not_not] at *)
  (try simp (disch := omega) only [i32_id] at *)
  first | done | omega | ((repeat' (with_reducible apply And.intro)) <;> first | assumption | rfl | omega | (unfold rOn; rw [if_neg (by omega)]) | (exact NXO_rng (GO_n hq)) | (unfold rOn; rw [if_pos (by omega), ← hh.1, if_pos (by omega)]) | (unfold rOn; rw [if_pos (by omega), ← hh.1, if_neg (by omega)]; exact NXO_it (GO_n hq) (by omega) (by omega) _) | grind [upI])
theorem vX3_on_6 (s : MS) (a1 : Int) (a2 : Int) (hp : tOK (s.2 6) ∧ aOK (s.2 6) (s.2 7) ∧ lOK ((s.2 5) 0) (s.2 6) ∧ (-2147483648 ≤ a1 ∧ a1 < 2147483648)) (c_2 : ¬ (bI (0 < (s.2 5) 0)) = 0) (o_3 : (tOK (s.2 6) ∧ aOK (s.2 6) (s.2 7))) (f_4 : Int → Int) (f_5 : Int → Int) (f_6 : Int → Int) (f_7 : Int → Int) (f_8 : Int → Int) (f_9 : Int → Int) (f_10 : Int → Int) (k_11 : Int) (q_12 : (GO (s.2 6) (s.2 7) f_6 f_7 f_8 f_9)) (o_13 : (tOK (s.2 6) ∧ (-2147483648 ≤ a1 ∧ a1 < 2147483648))) (r_14 : Int) (q_15 : (isNth (fun x => f_8 x = x) ((s.2 6) 2) a1 r_14)) (c_16 : ¬ r_14 = (-1)) (o_17 : (0 ≤ r_14 ∧ r_14 < 10000)) (c_19 : ¬ (bI ((0 : Int) ≤ a2 ∧ a2 ≤ (i32 ((f_9 r_14) - 1)))) = 0) (o_20 : (rng f_6 ((s.2 6) 2) ∧ (s.2 6) 2 ≤ 10000 ∧ 0 ≤ r_14 ∧ r_14 < (s.2 6) 2 ∧ 0 ≤ a2 ∧ a2 ≤ 1000000000)) : (it f_6 r_14 (a2).toNat) = (rOn ((s.2 5) 0) (s.2 6) (s.2 7) a1 a2) := by
  obtain ⟨ht, ha, hl, hi⟩ := hp
  have hN := tOK_N ht
  have hg := nx_rng (s.2 6) (s.2 7)
  (try simp only [bI_0, bI_n, Classical.not_not] at *)
  (try have hq := ‹GO (s.2 6) (s.2 7) _ _ _ _›)
  (try have hq := hI.2.1)
  (try have hx := GO_at hq (x := a1) (by omega) (by omega))
  (try have hN2 : 0 < s.2 6 2 := lOK_N ht hl (by omega))
  (try have hh := GO_home hq (by assumption))
  (try (have hz := hh.2.resolve_left c_16; obtain ⟨⟨hk0, hk1⟩, hcy, her⟩ := hz))
  (try (have hr := rg_le hg hk0 hk1 hcy; have hr2 := (rg_sp hcy).1))
  (try rw [her, i32_id (by omega) (by omega)] at c_19)
  (try unfold lex3)
  (try simp only [bI_0, bI_n, Classical.not_not] at *)
  (try simp (disch := omega) only [i32_id] at *)
  first | done | omega | ((repeat' (with_reducible apply And.intro)) <;> first | assumption | rfl | omega | (unfold rOn; rw [if_neg (by omega)]) | (exact NXO_rng (GO_n hq)) | (unfold rOn; rw [if_pos (by omega), ← hh.1, if_pos (by omega)]) | (unfold rOn; rw [if_pos (by omega), ← hh.1, if_neg (by omega)]; exact NXO_it (GO_n hq) (by omega) (by omega) _) | grind [upI])
theorem vX3_on_7 (s : MS) (a1 : Int) (a2 : Int) (hp : tOK (s.2 6) ∧ aOK (s.2 6) (s.2 7) ∧ lOK ((s.2 5) 0) (s.2 6) ∧ (-2147483648 ≤ a1 ∧ a1 < 2147483648)) (c_2 : ¬ (bI (0 < (s.2 5) 0)) = 0) (o_3 : (tOK (s.2 6) ∧ aOK (s.2 6) (s.2 7))) (f_4 : Int → Int) (f_5 : Int → Int) (f_6 : Int → Int) (f_7 : Int → Int) (f_8 : Int → Int) (f_9 : Int → Int) (f_10 : Int → Int) (k_11 : Int) (q_12 : (GO (s.2 6) (s.2 7) f_6 f_7 f_8 f_9)) (o_13 : (tOK (s.2 6) ∧ (-2147483648 ≤ a1 ∧ a1 < 2147483648))) (r_14 : Int) (q_15 : (isNth (fun x => f_8 x = x) ((s.2 6) 2) a1 r_14)) (c_16 : ¬ r_14 = (-1)) (o_17 : (0 ≤ r_14 ∧ r_14 < 10000)) (c_19 : (bI ((0 : Int) ≤ a2 ∧ a2 ≤ (i32 ((f_9 r_14) - 1)))) = 0) : (-1) = (rOn ((s.2 5) 0) (s.2 6) (s.2 7) a1 a2) := by
  obtain ⟨ht, ha, hl, hi⟩ := hp
  have hN := tOK_N ht
  have hg := nx_rng (s.2 6) (s.2 7)
  (try simp only [bI_0, bI_n, Classical.not_not] at *)
  (try have hq := ‹GO (s.2 6) (s.2 7) _ _ _ _›)
  (try have hq := hI.2.1)
  (try have hx := GO_at hq (x := a1) (by omega) (by omega))
  (try have hN2 : 0 < s.2 6 2 := lOK_N ht hl (by omega))
  (try have hh := GO_home hq (by assumption))
  (try (have hz := hh.2.resolve_left c_16; obtain ⟨⟨hk0, hk1⟩, hcy, her⟩ := hz))
  (try (have hr := rg_le hg hk0 hk1 hcy; have hr2 := (rg_sp hcy).1))
  (try rw [her, i32_id (by omega) (by omega)] at c_19)
  (try unfold lex3)
  (try simp only [bI_0, bI_n, Classical.not_not] at *)
  (try simp (disch := omega) only [i32_id] at *)
  first | done | omega | ((repeat' (with_reducible apply And.intro)) <;> first | assumption | rfl | omega | (unfold rOn; rw [if_neg (by omega)]) | (exact NXO_rng (GO_n hq)) | (unfold rOn; rw [if_pos (by omega), ← hh.1, if_pos (by omega)]) | (unfold rOn; rw [if_pos (by omega), ← hh.1, if_neg (by omega)]; exact NXO_it (GO_n hq) (by omega) (by omega) _) | grind [upI])
theorem vX3_on_8 (s : MS) (a1 : Int) (a2 : Int) (hp : tOK (s.2 6) ∧ aOK (s.2 6) (s.2 7) ∧ lOK ((s.2 5) 0) (s.2 6) ∧ (-2147483648 ≤ a1 ∧ a1 < 2147483648)) (c_2 : (bI (0 < (s.2 5) 0)) = 0) : (-2) = (rOn ((s.2 5) 0) (s.2 6) (s.2 7) a1 a2) := by
  obtain ⟨ht, ha, hl, hi⟩ := hp
  have hN := tOK_N ht
  have hg := nx_rng (s.2 6) (s.2 7)
  (try simp only [bI_0, bI_n, Classical.not_not] at *)
  (try have hq := ‹GO (s.2 6) (s.2 7) _ _ _ _›)
  (try have hq := hI.2.1)
  (try have hx := GO_at hq (x := a1) (by omega) (by omega))
  (try have hN2 : 0 < s.2 6 2 := lOK_N ht hl (by omega))
  (try have hh := GO_home hq (by assumption))
  (try (have hz := hh.2.resolve_left c_16; obtain ⟨⟨hk0, hk1⟩, hcy, her⟩ := hz))
  (try (have hr := rg_le hg hk0 hk1 hcy; have hr2 := (rg_sp hcy).1))
  (try rw [her, i32_id (by omega) (by omega)] at c_19)
  (try unfold lex3)
  (try simp only [bI_0, bI_n, Classical.not_not] at *)
  (try simp (disch := omega) only [i32_id] at *)
  first | done | omega | ((repeat' (with_reducible apply And.intro)) <;> first | assumption | rfl | omega | (unfold rOn; rw [if_neg (by omega)]) | (exact NXO_rng (GO_n hq)) | (unfold rOn; rw [if_pos (by omega), ← hh.1, if_pos (by omega)]) | (unfold rOn; rw [if_pos (by omega), ← hh.1, if_neg (by omega)]; exact NXO_it (GO_n hq) (by omega) (by omega) _) | grind [upI])
theorem ctX3_on (b : AH) (s : MS) (a1 : Int) (a2 : Int) (hp : tOK (s.2 6) ∧ aOK (s.2 6) (s.2 7) ∧ lOK ((s.2 5) 0) (s.2 6) ∧ (-2147483648 ≤ a1 ∧ a1 < 2147483648)) : MC mX3_on 9 b s [vI a1, vI a2] (QX3_on s a1 a2) := by
  refine MC.of (by decide) rfl (Nat.le_of_ble_eq_true rfl) (JW.steq (s2 := sS (sS (sS (sS (sA (sA (sA (sA (sA (sA (sA (sA (sA s 11 (s.2 11)) 12 (s.2 12)) 13 (s.2 13)) 14 (s.2 14)) 15 (s.2 15)) 16 (s.2 16)) 17 (s.2 17)) 18 (s.2 18)) 19 (s.2 19)) 0 (s.1 0)) 25 (s.1 25)) 33 (s.1 33)) 34 (s.1 34)) (by simp only [sA_id, sS_id]) ?_)
  refine bX3_on_0 b s a1 a2 (s.2 11) (s.2 12) (s.2 13) (s.2 14) (s.2 15) (s.2 16) (s.2 17) (s.2 18) (s.2 19) (s.1 0) (s.1 25) (s.1 33) (s.1 34) ?_
  refine ⟨fun c_2 => ?_, fun c_2 => ?_⟩
  · have o_3 : (tOK (s.2 6) ∧ aOK (s.2 6) (s.2 7)) := (vX3_on_1 s a1 a2 hp c_2)
    refine ⟨o_3, ?_⟩
    intro f_4 f_5 f_6 f_7 f_8 f_9 f_10 k_11 q_12
    have o_13 : (tOK (s.2 6) ∧ (-2147483648 ≤ a1 ∧ a1 < 2147483648)) := (vX3_on_2 s a1 a2 hp c_2 o_3 f_4 f_5 f_6 f_7 f_8 f_9 f_10 k_11 q_12)
    refine ⟨o_13, ?_⟩
    intro r_14 q_15
    refine ⟨fun c_16 => ?_, fun c_16 => ?_⟩
    · exact ⟨f_4, f_5, f_6, f_7, f_8, f_9, f_10, (s.2 18), (s.2 19), k_11, (s.1 33), (s.1 34), (rI_c (vX3_on_3 s a1 a2 hp c_2 o_3 f_4 f_5 f_6 f_7 f_8 f_9 f_10 k_11 q_12 o_13 r_14 q_15 c_16)), rfl⟩
    · have o_17 : (0 ≤ r_14 ∧ r_14 < 10000) := (vX3_on_4 s a1 a2 hp c_2 o_3 f_4 f_5 f_6 f_7 f_8 f_9 f_10 k_11 q_12 o_13 r_14 q_15 c_16)
      refine ⟨o_17, ?_⟩
      refine ⟨fun c_19 => ?_, fun c_19 => ?_⟩
      · have o_20 : (rng f_6 ((s.2 6) 2) ∧ (s.2 6) 2 ≤ 10000 ∧ 0 ≤ r_14 ∧ r_14 < (s.2 6) 2 ∧ 0 ≤ a2 ∧ a2 ≤ 1000000000) := (vX3_on_5 s a1 a2 hp c_2 o_3 f_4 f_5 f_6 f_7 f_8 f_9 f_10 k_11 q_12 o_13 r_14 q_15 c_16 o_17 c_19)
        refine ⟨o_20, ?_⟩
        exact ⟨f_4, f_5, f_6, f_7, f_8, f_9, f_10, (s.2 18), (s.2 19), k_11, (s.1 33), (s.1 34), (rI_c (vX3_on_6 s a1 a2 hp c_2 o_3 f_4 f_5 f_6 f_7 f_8 f_9 f_10 k_11 q_12 o_13 r_14 q_15 c_16 o_17 c_19 o_20)), rfl⟩
      · exact ⟨f_4, f_5, f_6, f_7, f_8, f_9, f_10, (s.2 18), (s.2 19), k_11, (s.1 33), (s.1 34), (rI_c (vX3_on_7 s a1 a2 hp c_2 o_3 f_4 f_5 f_6 f_7 f_8 f_9 f_10 k_11 q_12 o_13 r_14 q_15 c_16 o_17 c_19)), rfl⟩
  · exact ⟨(s.2 11), (s.2 12), (s.2 13), (s.2 14), (s.2 15), (s.2 16), (s.2 17), (s.2 18), (s.2 19), (s.1 25), (s.1 33), (s.1 34), (rI_c (vX3_on_8 s a1 a2 hp c_2)), rfl⟩
