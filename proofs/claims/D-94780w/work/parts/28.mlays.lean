/-! contracts of the reference: through0 lays -/
set_option maxRecDepth 100000
def HX3_through0_0 (Q : Option AV → MS → Prop) (b : AH) (s : MS) (x1 : Int) (x2 : Int) (f11 : Int → Int) (f12 : Int → Int) (k25 : Int) : Prop := MW mX3_through0 5 Q b 0 [(0, vR 351), (1, vI x1), (2, vI x2)] [] (sS (sA (sA s 11 f11) 12 f12) 25 k25)
def HX3_through0_10 (Q : Option AV → MS → Prop) (b : AH) (s : MS) (x2 : Int) (x3 : Int) (x4 : Int) (f11 : Int → Int) (f12 : Int → Int) (k25 : Int) : Prop := MW mX3_through0 5 Q b 10 [(0, vR 351), (2, vI x2), (3, vI x3), (4, vI x4)] [] (sS (sA (sA s 11 f11) 12 f12) 25 k25)
theorem bX3_through0_0 {Q : Option AV → MS → Prop} (b : AH) (s : MS) (x1 : Int) (x2 : Int) (f11 : Int → Int) (f12 : Int → Int) (k25 : Int) (K : HX3_through0_10 Q b s x2 x1 0 f11 f12 x1) : HX3_through0_0 Q b s x1 x2 f11 f12 k25 := by
  refine JW.aload_n dX3_through0_0 rfl ?_
  refine JW.iload_n dX3_through0_1 rfl ?_
  refine JW.mputI dX3_through0_2 (pX3_274 _) rfl ?_
  refine JW.steq (s2 := sS (sA (sA s 11 f11) 12 f12) 25 x1) (by simp only [sA_A, sS_S, sA_S, sA_lt, sS_lt, Nat.reduceLT, id_eq] <;> rfl) ?_
  refine JW.iload_n dX3_through0_5 rfl ?_
  refine JW.istore_n (ls' := [(0, vR 351), (1, vI x1), (2, vI x2), (3, vI x1)]) dX3_through0_6 (Nat.le_of_ble_eq_true rfl) rfl ?_
  refine JW.iconst dX3_through0_7 rfl ?_
  refine JW.istore (ls' := [(0, vR 351), (1, vI x1), (2, vI x2), (3, vI x1), (4, vI 0)]) dX3_through0_8 (Nat.le_of_ble_eq_true rfl) rfl ?_
  exact JW.pick [0, 2, 3, 4] rfl K
theorem bX3_through0_10 {Q : Option AV → MS → Prop} (b : AH) (s : MS) (x2 : Int) (x3 : Int) (x4 : Int) (f11 : Int → Int) (f12 : Int → Int) (k25 : Int) (K : (x2 ≤ x4 → Q (some (vI x3)) (sS (sA (sA s 11 f11) 12 f12) 25 k25)) ∧ (¬ x2 ≤ x4 → (0 ≤ (i32 (2 * x4)) ∧ (i32 (2 * x4)) < 120) ∧ ((0 ≤ (i32 ((i32 (2 * x4)) + 1)) ∧ (i32 ((i32 (2 * x4)) + 1)) < 120) ∧ ((tOK (s.2 6) ∧ 0 ≤ x3 ∧ x3 < (s.2 6) 2 ∧ (0 ≤ k25 ∧ k25 < (s.2 6) 2) ∧ wOK ((s.2 6) 0) (s.2 7 (i32 (2 * x4))) (s.2 7 (i32 ((i32 (2 * x4)) + 1)))) ∧ ((∀ (f_5 : Int → Int) (f_6 : Int → Int), HX3_through0_10 Q b s x2 (wdo (s.2 6) k25 x3 (s.2 7 (i32 (2 * x4))) (s.2 7 (i32 ((i32 (2 * x4)) + 1)))) (i32 (x4 + 1)) f_5 f_6 (wkp k25 x3 (s.2 7 (i32 (2 * x4)))))))))) : HX3_through0_10 Q b s x2 x3 x4 f11 f12 k25 := by
  refine JW.iload dX3_through0_10 rfl ?_
  refine JW.iload_n dX3_through0_12 rfl ?_
  refine JW.icmp_ge (tgt := 48) dX3_through0_13 rfl (fun c_1 => ?_) (fun c_1 => ?_)
  · have K := K.1 c_1
    refine JW.iload_n dX3_through0_48 rfl ?_
    exact JW.ireturn dX3_through0_49 rfl rfl ⟨_, rfl, K⟩
  · have K := K.2 c_1
    refine JW.aload_n dX3_through0_16 rfl ?_
    refine JW.iload_n dX3_through0_17 rfl ?_
    refine JW.aload_n dX3_through0_18 rfl ?_
    refine JW.mget (v := vR 359) dX3_through0_19 fX3_37 rfl ?_
    refine JW.iconst dX3_through0_22 rfl ?_
    refine JW.iload dX3_through0_23 rfl ?_
    refine JW.imul dX3_through0_25 ?_
    obtain ⟨o_2, K⟩ := K
    refine JW.mald 7 (x := (s.2 7 (i32 (2 * x4)))) dX3_through0_26 (Nat.le_of_ble_eq_true rfl) rfl o_2.1 o_2.2 rfl ?_
    refine JW.aload_n dX3_through0_27 rfl ?_
    refine JW.mget (v := vR 359) dX3_through0_28 fX3_37 rfl ?_
    refine JW.iconst dX3_through0_31 rfl ?_
    refine JW.iload dX3_through0_32 rfl ?_
    refine JW.imul dX3_through0_34 ?_
    refine JW.iconst dX3_through0_35 rfl ?_
    refine JW.iadd dX3_through0_36 ?_
    obtain ⟨o_3, K⟩ := K
    refine JW.mald 7 (x := (s.2 7 (i32 ((i32 (2 * x4)) + 1)))) dX3_through0_37 (Nat.le_of_ble_eq_true rfl) rfl o_3.1 o_3.2 rfl ?_
    obtain ⟨o_4, K⟩ := K
    refine JW.mcall (As := [vI x3, vI (s.2 7 (i32 (2 * x4))), vI (s.2 7 (i32 ((i32 (2 * x4)) + 1)))]) dX3_through0_38 vX3_does rfl q1822 (ctX3_does b (sS (sA (sA s 11 f11) 12 f12) 25 k25) x3 (s.2 7 (i32 (2 * x4))) (s.2 7 (i32 ((i32 (2 * x4)) + 1))) o_4) (Nat.le_of_ble_eq_true rfl) rfl (Nat.le_of_ble_eq_true rfl) ?_
    rintro _ _ ⟨f_5, f_6, rfl, rfl⟩
    refine JW.steq (s2 := sS (sA (sA s 11 f_5) 12 f_6) 25 (wkp k25 x3 (s.2 7 (i32 (2 * x4))))) (by simp only [sA_A, sS_S, sA_S, sA_lt, sS_lt, Nat.reduceLT, id_eq] <;> rfl) ?_
    replace K := K f_5 f_6
    refine JW.istore_n (ls' := [(0, vR 351), (2, vI x2), (3, vI (wdo (s.2 6) k25 x3 (s.2 7 (i32 (2 * x4))) (s.2 7 (i32 ((i32 (2 * x4)) + 1))))), (4, vI x4)]) dX3_through0_41 (Nat.le_of_ble_eq_true rfl) rfl ?_
    refine JW.iinc (ls' := [(0, vR 351), (2, vI x2), (3, vI (wdo (s.2 6) k25 x3 (s.2 7 (i32 (2 * x4))) (s.2 7 (i32 ((i32 (2 * x4)) + 1))))), (4, vI (i32 (x4 + 1)))]) dX3_through0_42 (Nat.le_of_ble_eq_true rfl) rfl rfl ?_
    refine JW.goto (tgt := 10) dX3_through0_45 rfl ?_
    exact JW.pick [0, 2, 3, 4] rfl K
def QX3_through0 (s : MS) (a1 : Int) (a2 : Int) : Option AV → MS → Prop := fun v s' => ∃ (f11 : Int → Int) (f12 : Int → Int), v = some (vI ((thrS (s.2 6) (s.2 7) a1 (a2).toNat).2)) ∧ s' = sS (sA (sA s 11 f11) 12 f12) 25 ((thrS (s.2 6) (s.2 7) a1 (a2).toNat).1)
theorem vX3_through0_1 (s : MS) (a1 : Int) (a2 : Int) (hp : tOK (s.2 6) ∧ aOK (s.2 6) (s.2 7) ∧ 0 ≤ a1 ∧ a1 < (s.2 6) 2 ∧ 0 ≤ a2 ∧ a2 ≤ (s.2 6) 3) (x2 : Int) (x3 : Int) (x4 : Int) (f11 : Int → Int) (f12 : Int → Int) (k25 : Int) (hI : x2 = a2 ∧ (0 ≤ x4 ∧ x4 ≤ a2) ∧ x3 = (thrS (s.2 6) (s.2 7) a1 x4.toNat).2 ∧ k25 = (thrS (s.2 6) (s.2 7) a1 x4.toNat).1) (c_1 : x2 ≤ x4) : k25 = ((thrS (s.2 6) (s.2 7) a1 (a2).toNat).1) := by
  obtain ⟨ht, ha, h0, h1, h2, h3⟩ := hp
  have hW := tOK_W ht
  have hN := tOK_N ht
  (try (have b := thrS_b (a := s.2 7) ⟨h0, h1⟩ x4.toNat; rw [← hI.2.2.1, ← hI.2.2.2] at b))
  (try unfold lex3)
  (try simp only [bI_0, bI_n, Classical.not_not] at *)
  (try simp (disch := omega) only [i32_id] at *)
  first | done | omega | ((repeat' (with_reducible apply And.intro)) <;> first | assumption | rfl | omega | (exact ha x4 (by omega) (by omega)) | (rw [hI.2.2.1, show x4 = a2 by omega]) | (rw [hI.2.2.2, show x4 = a2 by omega]) | (rw [thrS_s _ _ _ hI.2.1.1, hI.2.2.1, hI.2.2.2]) | grind [upI])
theorem vX3_through0_2 (s : MS) (a1 : Int) (a2 : Int) (hp : tOK (s.2 6) ∧ aOK (s.2 6) (s.2 7) ∧ 0 ≤ a1 ∧ a1 < (s.2 6) 2 ∧ 0 ≤ a2 ∧ a2 ≤ (s.2 6) 3) (x2 : Int) (x3 : Int) (x4 : Int) (f11 : Int → Int) (f12 : Int → Int) (k25 : Int) (hI : x2 = a2 ∧ (0 ≤ x4 ∧ x4 ≤ a2) ∧ x3 = (thrS (s.2 6) (s.2 7) a1 x4.toNat).2 ∧ k25 = (thrS (s.2 6) (s.2 7) a1 x4.toNat).1) (c_1 : x2 ≤ x4) : x3 = ((thrS (s.2 6) (s.2 7) a1 (a2).toNat).2) := by
  obtain ⟨ht, ha, h0, h1, h2, h3⟩ := hp
  have hW := tOK_W ht
  have hN := tOK_N ht
  (try (have b := thrS_b (a := s.2 7) ⟨h0, h1⟩ x4.toNat; rw [← hI.2.2.1, ← hI.2.2.2] at b))
  (try unfold lex3)
  (try simp only [bI_0, bI_n, Classical.not_not] at *)
  (try simp (disch := omega) only [i32_id] at *)
  first | done | omega | ((repeat' (with_reducible apply And.intro)) <;> first | assumption | rfl | omega | (exact ha x4 (by omega) (by omega)) | (rw [hI.2.2.1, show x4 = a2 by omega]) | (rw [hI.2.2.2, show x4 = a2 by omega]) | (rw [thrS_s _ _ _ hI.2.1.1, hI.2.2.1, hI.2.2.2]) | grind [upI])
theorem vX3_through0_3 (s : MS) (a1 : Int) (a2 : Int) (hp : tOK (s.2 6) ∧ aOK (s.2 6) (s.2 7) ∧ 0 ≤ a1 ∧ a1 < (s.2 6) 2 ∧ 0 ≤ a2 ∧ a2 ≤ (s.2 6) 3) (x2 : Int) (x3 : Int) (x4 : Int) (f11 : Int → Int) (f12 : Int → Int) (k25 : Int) (hI : x2 = a2 ∧ (0 ≤ x4 ∧ x4 ≤ a2) ∧ x3 = (thrS (s.2 6) (s.2 7) a1 x4.toNat).2 ∧ k25 = (thrS (s.2 6) (s.2 7) a1 x4.toNat).1) (c_1 : ¬ x2 ≤ x4) : (0 ≤ (i32 (2 * x4)) ∧ (i32 (2 * x4)) < 120) := by
  obtain ⟨ht, ha, h0, h1, h2, h3⟩ := hp
  have hW := tOK_W ht
  have hN := tOK_N ht
  (try (have b := thrS_b (a := s.2 7) ⟨h0, h1⟩ x4.toNat; rw [← hI.2.2.1, ← hI.2.2.2] at b))
  (try unfold lex3)
  (try simp only [bI_0, bI_n, Classical.not_not] at *)
  (try simp (disch := omega) only [i32_id] at *)
  first | done | omega | ((repeat' (with_reducible apply And.intro)) <;> first | assumption | rfl | omega | (exact ha x4 (by omega) (by omega)) | (rw [hI.2.2.1, show x4 = a2 by omega]) | (rw [hI.2.2.2, show x4 = a2 by omega]) | (rw [thrS_s _ _ _ hI.2.1.1, hI.2.2.1, hI.2.2.2]) | grind [upI])
theorem vX3_through0_4 (s : MS) (a1 : Int) (a2 : Int) (hp : tOK (s.2 6) ∧ aOK (s.2 6) (s.2 7) ∧ 0 ≤ a1 ∧ a1 < (s.2 6) 2 ∧ 0 ≤ a2 ∧ a2 ≤ (s.2 6) 3) (x2 : Int) (x3 : Int) (x4 : Int) (f11 : Int → Int) (f12 : Int → Int) (k25 : Int) (hI : x2 = a2 ∧ (0 ≤ x4 ∧ x4 ≤ a2) ∧ x3 = (thrS (s.2 6) (s.2 7) a1 x4.toNat).2 ∧ k25 = (thrS (s.2 6) (s.2 7) a1 x4.toNat).1) (c_1 : ¬ x2 ≤ x4) (o_2 : (0 ≤ (i32 (2 * x4)) ∧ (i32 (2 * x4)) < 120)) : (0 ≤ (i32 ((i32 (2 * x4)) + 1)) ∧ (i32 ((i32 (2 * x4)) + 1)) < 120) := by
  obtain ⟨ht, ha, h0, h1, h2, h3⟩ := hp
  have hW := tOK_W ht
  have hN := tOK_N ht
  (try (have b := thrS_b (a := s.2 7) ⟨h0, h1⟩ x4.toNat; rw [← hI.2.2.1, ← hI.2.2.2] at b))
  (try unfold lex3)
  (try simp only [bI_0, bI_n, Classical.not_not] at *)
  (try simp (disch := omega) only [i32_id] at *)
  first | done | omega | ((repeat' (with_reducible apply And.intro)) <;> first | assumption | rfl | omega | (exact ha x4 (by omega) (by omega)) | (rw [hI.2.2.1, show x4 = a2 by omega]) | (rw [hI.2.2.2, show x4 = a2 by omega]) | (rw [thrS_s _ _ _ hI.2.1.1, hI.2.2.1, hI.2.2.2]) | grind [upI])
theorem vX3_through0_5 (s : MS) (a1 : Int) (a2 : Int) (hp : tOK (s.2 6) ∧ aOK (s.2 6) (s.2 7) ∧ 0 ≤ a1 ∧ a1 < (s.2 6) 2 ∧ 0 ≤ a2 ∧ a2 ≤ (s.2 6) 3) (x2 : Int) (x3 : Int) (x4 : Int) (f11 : Int → Int) (f12 : Int → Int) (k25 : Int) (hI : x2 = a2 ∧ (0 ≤ x4 ∧ x4 ≤ a2) ∧ x3 = (thrS (s.2 6) (s.2 7) a1 x4.toNat).2 ∧ k25 = (thrS (s.2 6) (s.2 7) a1 x4.toNat).1) (c_1 : ¬ x2 ≤ x4) (o_2 : (0 ≤ (i32 (2 * x4)) ∧ (i32 (2 * x4)) < 120)) (o_3 : (0 ≤ (i32 ((i32 (2 * x4)) + 1)) ∧ (i32 ((i32 (2 * x4)) + 1)) < 120)) : (tOK (s.2 6) ∧ 0 ≤ x3 ∧ x3 < (s.2 6) 2 ∧ (0 ≤ k25 ∧ k25 < (s.2 6) 2) ∧ wOK ((s.2 6) 0) (s.2 7 (i32 (2 * x4))) (s.2 7 (i32 ((i32 (2 * x4)) + 1)))) := by
  obtain ⟨ht, ha, h0, h1, h2, h3⟩ := hp
  have hW := tOK_W ht
  have hN := tOK_N ht
  (try (have b := thrS_b (a := s.2 7) ⟨h0, h1⟩ x4.toNat; rw [← hI.2.2.1, ← hI.2.2.2] at b))
  (try unfold lex3)
  (try simp only [bI_0, bI_n, Classical.not_not] at *)
  (try simp (disch := omega) only [i32_id] at *)
  first | done | omega | ((repeat' (with_reducible apply And.intro)) <;> first | assumption | rfl | omega | (exact ha x4 (by omega) (by omega)) | (rw [hI.2.2.1, show x4 = a2 by omega]) | (rw [hI.2.2.2, show x4 = a2 by omega]) | (rw [thrS_s _ _ _ hI.2.1.1, hI.2.2.1, hI.2.2.2]) | grind [upI])
theorem vX3_through0_6 (s : MS) (a1 : Int) (a2 : Int) (hp : tOK (s.2 6) ∧ aOK (s.2 6) (s.2 7) ∧ 0 ≤ a1 ∧ a1 < (s.2 6) 2 ∧ 0 ≤ a2 ∧ a2 ≤ (s.2 6) 3) (x2 : Int) (x3 : Int) (x4 : Int) (f11 : Int → Int) (f12 : Int → Int) (k25 : Int) (hI : x2 = a2 ∧ (0 ≤ x4 ∧ x4 ≤ a2) ∧ x3 = (thrS (s.2 6) (s.2 7) a1 x4.toNat).2 ∧ k25 = (thrS (s.2 6) (s.2 7) a1 x4.toNat).1) (c_1 : ¬ x2 ≤ x4) (o_2 : (0 ≤ (i32 (2 * x4)) ∧ (i32 (2 * x4)) < 120)) (o_3 : (0 ≤ (i32 ((i32 (2 * x4)) + 1)) ∧ (i32 ((i32 (2 * x4)) + 1)) < 120)) (o_4 : (tOK (s.2 6) ∧ 0 ≤ x3 ∧ x3 < (s.2 6) 2 ∧ (0 ≤ k25 ∧ k25 < (s.2 6) 2) ∧ wOK ((s.2 6) 0) (s.2 7 (i32 (2 * x4))) (s.2 7 (i32 ((i32 (2 * x4)) + 1))))) (f_5 : Int → Int) (f_6 : Int → Int) : x2 = a2 ∧ (0 ≤ (i32 (x4 + 1)) ∧ (i32 (x4 + 1)) ≤ a2) ∧ (wdo (s.2 6) k25 x3 (s.2 7 (i32 (2 * x4))) (s.2 7 (i32 ((i32 (2 * x4)) + 1)))) = (thrS (s.2 6) (s.2 7) a1 (i32 (x4 + 1)).toNat).2 ∧ (wkp k25 x3 (s.2 7 (i32 (2 * x4)))) = (thrS (s.2 6) (s.2 7) a1 (i32 (x4 + 1)).toNat).1 := by
  obtain ⟨ht, ha, h0, h1, h2, h3⟩ := hp
  have hW := tOK_W ht
  have hN := tOK_N ht
  (try (have b := thrS_b (a := s.2 7) ⟨h0, h1⟩ x4.toNat; rw [← hI.2.2.1, ← hI.2.2.2] at b))
  (try unfold lex3)
  (try simp only [bI_0, bI_n, Classical.not_not] at *)
  (try simp (disch := omega) only [i32_id] at *)
  first | done | omega | ((repeat' (with_reducible apply And.intro)) <;> first | assumption | rfl | omega | (exact ha x4 (by omega) (by omega)) | (rw [hI.2.2.1, show x4 = a2 by omega]) | (rw [hI.2.2.2, show x4 = a2 by omega]) | (rw [thrS_s _ _ _ hI.2.1.1, hI.2.2.1, hI.2.2.2]) | grind [upI])
theorem vX3_through0_7 (s : MS) (a1 : Int) (a2 : Int) (hp : tOK (s.2 6) ∧ aOK (s.2 6) (s.2 7) ∧ 0 ≤ a1 ∧ a1 < (s.2 6) 2 ∧ 0 ≤ a2 ∧ a2 ≤ (s.2 6) 3) (x2 : Int) (x3 : Int) (x4 : Int) (f11 : Int → Int) (f12 : Int → Int) (k25 : Int) (hI : x2 = a2 ∧ (0 ≤ x4 ∧ x4 ≤ a2) ∧ x3 = (thrS (s.2 6) (s.2 7) a1 x4.toNat).2 ∧ k25 = (thrS (s.2 6) (s.2 7) a1 x4.toNat).1) (c_1 : ¬ x2 ≤ x4) (o_2 : (0 ≤ (i32 (2 * x4)) ∧ (i32 (2 * x4)) < 120)) (o_3 : (0 ≤ (i32 ((i32 (2 * x4)) + 1)) ∧ (i32 ((i32 (2 * x4)) + 1)) < 120)) (o_4 : (tOK (s.2 6) ∧ 0 ≤ x3 ∧ x3 < (s.2 6) 2 ∧ (0 ≤ k25 ∧ k25 < (s.2 6) 2) ∧ wOK ((s.2 6) 0) (s.2 7 (i32 (2 * x4))) (s.2 7 (i32 ((i32 (2 * x4)) + 1))))) (f_5 : Int → Int) (f_6 : Int → Int) : lex3 0 0 ((a2 - (i32 (x4 + 1))).toNat) 0 0 ((a2 - x4).toNat) := by
  obtain ⟨ht, ha, h0, h1, h2, h3⟩ := hp
  have hW := tOK_W ht
  have hN := tOK_N ht
  (try (have b := thrS_b (a := s.2 7) ⟨h0, h1⟩ x4.toNat; rw [← hI.2.2.1, ← hI.2.2.2] at b))
  (try unfold lex3)
  (try simp only [bI_0, bI_n, Classical.not_not] at *)
  (try simp (disch := omega) only [i32_id] at *)
  first | done | omega | ((repeat' (with_reducible apply And.intro)) <;> first | assumption | rfl | omega | (exact ha x4 (by omega) (by omega)) | (rw [hI.2.2.1, show x4 = a2 by omega]) | (rw [hI.2.2.2, show x4 = a2 by omega]) | (rw [thrS_s _ _ _ hI.2.1.1, hI.2.2.1, hI.2.2.2]) | grind [upI])
theorem vX3_through0_8 (s : MS) (a1 : Int) (a2 : Int) (hp : tOK (s.2 6) ∧ aOK (s.2 6) (s.2 7) ∧ 0 ≤ a1 ∧ a1 < (s.2 6) 2 ∧ 0 ≤ a2 ∧ a2 ≤ (s.2 6) 3) : a2 = a2 ∧ (0 ≤ (0 : Int) ∧ (0 : Int) ≤ a2) ∧ a1 = (thrS (s.2 6) (s.2 7) a1 (0 : Int).toNat).2 ∧ a1 = (thrS (s.2 6) (s.2 7) a1 (0 : Int).toNat).1 := by
  obtain ⟨ht, ha, h0, h1, h2, h3⟩ := hp
  have hW := tOK_W ht
  have hN := tOK_N ht
  (try (have b := thrS_b (a := s.2 7) ⟨h0, h1⟩ x4.toNat; rw [← hI.2.2.1, ← hI.2.2.2] at b))
  (try unfold lex3)
  (try simp only [bI_0, bI_n, Classical.not_not] at *)
  (try simp (disch := omega) only [i32_id] at *)
  first | done | omega | ((repeat' (with_reducible apply And.intro)) <;> first | assumption | rfl | omega | (exact ha x4 (by omega) (by omega)) | (rw [hI.2.2.1, show x4 = a2 by omega]) | (rw [hI.2.2.2, show x4 = a2 by omega]) | (rw [thrS_s _ _ _ hI.2.1.1, hI.2.2.1, hI.2.2.2]) | grind [upI])
theorem allX3_through0 (b : AH) (s : MS) (a1 : Int) (a2 : Int) (hp : tOK (s.2 6) ∧ aOK (s.2 6) (s.2 7) ∧ 0 ≤ a1 ∧ a1 < (s.2 6) 2 ∧ 0 ≤ a2 ∧ a2 ≤ (s.2 6) 3) : ∀ m1 m2 m3 : Nat, (∀ (x2 : Int) (x3 : Int) (x4 : Int) (f11 : Int → Int) (f12 : Int → Int) (k25 : Int), m1 = 0 → m2 = 0 → m3 = ((a2 - x4).toNat) → (x2 = a2 ∧ (0 ≤ x4 ∧ x4 ≤ a2) ∧ x3 = (thrS (s.2 6) (s.2 7) a1 x4.toNat).2 ∧ k25 = (thrS (s.2 6) (s.2 7) a1 x4.toNat).1) → HX3_through0_10 (QX3_through0 s a1 a2) b s x2 x3 x4 f11 f12 k25) := by
  refine lex3_ind ?_
  intro m1 m2 m3 ih
  rintro x2 x3 x4 f11 f12 k25 rfl rfl rfl hI
  refine bX3_through0_10 b s x2 x3 x4 f11 f12 k25 ?_
  refine ⟨fun c_1 => ?_, fun c_1 => ?_⟩
  · exact ⟨f11, f12, (rI_c (vX3_through0_2 s a1 a2 hp x2 x3 x4 f11 f12 k25 hI c_1)), (sS_c (sA_c (sA_c rfl rfl) rfl) (vX3_through0_1 s a1 a2 hp x2 x3 x4 f11 f12 k25 hI c_1))⟩
  · have o_2 : (0 ≤ (i32 (2 * x4)) ∧ (i32 (2 * x4)) < 120) := (vX3_through0_3 s a1 a2 hp x2 x3 x4 f11 f12 k25 hI c_1)
    refine ⟨o_2, ?_⟩
    have o_3 : (0 ≤ (i32 ((i32 (2 * x4)) + 1)) ∧ (i32 ((i32 (2 * x4)) + 1)) < 120) := (vX3_through0_4 s a1 a2 hp x2 x3 x4 f11 f12 k25 hI c_1 o_2)
    refine ⟨o_3, ?_⟩
    have o_4 : (tOK (s.2 6) ∧ 0 ≤ x3 ∧ x3 < (s.2 6) 2 ∧ (0 ≤ k25 ∧ k25 < (s.2 6) 2) ∧ wOK ((s.2 6) 0) (s.2 7 (i32 (2 * x4))) (s.2 7 (i32 ((i32 (2 * x4)) + 1)))) := (vX3_through0_5 s a1 a2 hp x2 x3 x4 f11 f12 k25 hI c_1 o_2 o_3)
    refine ⟨o_4, ?_⟩
    intro f_5 f_6
    exact (ih _ _ _ (vX3_through0_7 s a1 a2 hp x2 x3 x4 f11 f12 k25 hI c_1 o_2 o_3 o_4 f_5 f_6)) x2 (wdo (s.2 6) k25 x3 (s.2 7 (i32 (2 * x4))) (s.2 7 (i32 ((i32 (2 * x4)) + 1)))) (i32 (x4 + 1)) f_5 f_6 (wkp k25 x3 (s.2 7 (i32 (2 * x4)))) rfl rfl rfl (vX3_through0_6 s a1 a2 hp x2 x3 x4 f11 f12 k25 hI c_1 o_2 o_3 o_4 f_5 f_6)
theorem ctX3_through0 (b : AH) (s : MS) (a1 : Int) (a2 : Int) (hp : tOK (s.2 6) ∧ aOK (s.2 6) (s.2 7) ∧ 0 ≤ a1 ∧ a1 < (s.2 6) 2 ∧ 0 ≤ a2 ∧ a2 ≤ (s.2 6) 3) : MC mX3_through0 5 b s [vI a1, vI a2] (QX3_through0 s a1 a2) := by
  refine MC.of (by decide) rfl (Nat.le_of_ble_eq_true rfl) (JW.steq (s2 := sS (sA (sA s 11 (s.2 11)) 12 (s.2 12)) 25 (s.1 25)) (by simp only [sA_id, sS_id]) ?_)
  refine bX3_through0_0 b s a1 a2 (s.2 11) (s.2 12) (s.1 25) ?_
  exact (allX3_through0 b s a1 a2 hp _ _ _) a2 a1 0 (s.2 11) (s.2 12) a1 rfl rfl rfl (vX3_through0_8 s a1 a2 hp)
def HX3_lays_0 (Q : Option AV → MS → Prop) (b : AH) (s : MS) (f11 : Int → Int) (f12 : Int → Int) (f13 : Int → Int) (k25 : Int) : Prop := MW mX3_lays 6 Q b 0 [(0, vR 351)] [] (sS (sA (sA (sA s 11 f11) 12 f12) 13 f13) 25 k25)
def HX3_lays_2 (Q : Option AV → MS → Prop) (b : AH) (s : MS) (x1 : Int) (f11 : Int → Int) (f12 : Int → Int) (f13 : Int → Int) (k25 : Int) : Prop := MW mX3_lays 6 Q b 2 [(0, vR 351), (1, vI x1)] [] (sS (sA (sA (sA s 11 f11) 12 f12) 13 f13) 25 k25)
theorem bX3_lays_0 {Q : Option AV → MS → Prop} (b : AH) (s : MS) (f11 : Int → Int) (f12 : Int → Int) (f13 : Int → Int) (k25 : Int) (K : HX3_lays_2 Q b s 0 f11 f12 f13 k25) : HX3_lays_0 Q b s f11 f12 f13 k25 := by
  refine JW.iconst dX3_lays_0 rfl ?_
  refine JW.istore_n (ls' := [(0, vR 351), (1, vI 0)]) dX3_lays_1 (Nat.le_of_ble_eq_true rfl) rfl ?_
  exact JW.pick [0, 1] rfl K
theorem bX3_lays_2 {Q : Option AV → MS → Prop} (b : AH) (s : MS) (x1 : Int) (f11 : Int → Int) (f12 : Int → Int) (f13 : Int → Int) (k25 : Int) (K : ((s.2 6 2) ≤ x1 → Q none (sS (sA (sA (sA s 11 f11) 12 f12) 13 f13) 25 k25)) ∧ (¬ (s.2 6 2) ≤ x1 → (tOK (s.2 6) ∧ aOK (s.2 6) (s.2 7) ∧ 0 ≤ x1 ∧ x1 < (s.2 6) 2 ∧ 0 ≤ (s.2 6 3) ∧ (s.2 6 3) ≤ (s.2 6) 3) ∧ ((∀ (f_3 : Int → Int) (f_4 : Int → Int), (0 ≤ x1 ∧ x1 < 10000) ∧ (HX3_lays_2 Q b s (i32 (x1 + 1)) f_3 f_4 (upI f13 x1 ((thrS (s.2 6) (s.2 7) x1 ((s.2 6 3)).toNat).2)) ((thrS (s.2 6) (s.2 7) x1 ((s.2 6 3)).toNat).1)))))) : HX3_lays_2 Q b s x1 f11 f12 f13 k25 := by
  refine JW.iload_n dX3_lays_2 rfl ?_
  refine JW.aload_n dX3_lays_3 rfl ?_
  refine JW.mget (v := vR 358) dX3_lays_4 fX3_34 rfl ?_
  refine JW.iconst dX3_lays_7 rfl ?_
  refine JW.mald 6 (x := (s.2 6 2)) dX3_lays_8 (Nat.le_of_ble_eq_true rfl) rfl (by decide) (by decide) rfl ?_
  refine JW.icmp_ge (tgt := 35) dX3_lays_9 rfl (fun c_1 => ?_) (fun c_1 => ?_)
  · have K := K.1 c_1
    exact JW.vreturn dX3_lays_35 rfl ⟨_, rfl, K⟩
  · have K := K.2 c_1
    refine JW.aload_n dX3_lays_12 rfl ?_
    refine JW.mget (v := vR 365) dX3_lays_13 fX3_56 rfl ?_
    refine JW.iload_n dX3_lays_16 rfl ?_
    refine JW.aload_n dX3_lays_17 rfl ?_
    refine JW.iload_n dX3_lays_18 rfl ?_
    refine JW.aload_n dX3_lays_19 rfl ?_
    refine JW.mget (v := vR 358) dX3_lays_20 fX3_34 rfl ?_
    refine JW.iconst dX3_lays_23 rfl ?_
    refine JW.mald 6 (x := (s.2 6 3)) dX3_lays_24 (Nat.le_of_ble_eq_true rfl) rfl (by decide) (by decide) rfl ?_
    obtain ⟨o_2, K⟩ := K
    refine JW.mcall (As := [vI x1, vI (s.2 6 3)]) dX3_lays_25 vX3_through0 rfl q1818 (ctX3_through0 b (sS (sA (sA (sA s 11 f11) 12 f12) 13 f13) 25 k25) x1 (s.2 6 3) o_2) (Nat.le_of_ble_eq_true rfl) rfl (Nat.le_of_ble_eq_true rfl) ?_
    rintro _ _ ⟨f_3, f_4, rfl, rfl⟩
    refine JW.steq (s2 := sS (sA (sA (sA s 11 f_3) 12 f_4) 13 f13) 25 ((thrS (s.2 6) (s.2 7) x1 ((s.2 6 3)).toNat).1)) (by simp only [sA_A, sS_S, sA_S, sA_lt, sS_lt, Nat.reduceLT, id_eq] <;> rfl) ?_
    replace K := K f_3 f_4
    obtain ⟨o_6, K⟩ := K
    refine JW.mast 13 (f := f13) dX3_lays_28 (Nat.le_of_ble_eq_true rfl) rfl o_6.1 o_6.2 rfl ?_
    refine JW.steq (s2 := sS (sA (sA (sA s 11 f_3) 12 f_4) 13 (upI f13 x1 ((thrS (s.2 6) (s.2 7) x1 ((s.2 6 3)).toNat).2))) 25 ((thrS (s.2 6) (s.2 7) x1 ((s.2 6 3)).toNat).1)) (by simp only [sA_A, sS_S, sA_S, sA_lt, sS_lt, Nat.reduceLT, id_eq] <;> rfl) ?_
    refine JW.iinc (ls' := [(0, vR 351), (1, vI (i32 (x1 + 1)))]) dX3_lays_29 (Nat.le_of_ble_eq_true rfl) rfl rfl ?_
    refine JW.goto (tgt := 2) dX3_lays_32 rfl ?_
    exact JW.pick [0, 1] rfl K
def QX3_lays (s : MS) : Option AV → MS → Prop := fun v s' => ∃ (f11 : Int → Int) (f12 : Int → Int) (f13 : Int → Int) (k25 : Int), v = none ∧ s' = sS (sA (sA (sA s 11 f11) 12 f12) 13 f13) 25 k25 ∧ (NXO (s.2 6) (s.2 7) f13)
theorem vX3_lays_1 (s : MS) (hp : tOK (s.2 6) ∧ aOK (s.2 6) (s.2 7)) (x1 : Int) (f11 : Int → Int) (f12 : Int → Int) (f13 : Int → Int) (k25 : Int) (hI : (0 ≤ x1 ∧ x1 ≤ s.2 6 2) ∧ ∀ z : Int, 0 ≤ z → z < x1 → f13 z = nx (s.2 6) (s.2 7) z) (c_1 : (s.2 6 2) ≤ x1) : NXO (s.2 6) (s.2 7) f13 := by
  obtain ⟨ht, ha⟩ := hp
  have hW := tOK_W ht
  have hN := tOK_N ht
  (try unfold lex3)
  (try simp only [bI_0, bI_n, Classical.not_not] at *)
  (try simp (disch := omega) only [i32_id] at *)
  first | done | omega | ((repeat' (with_reducible apply And.intro)) <;> first | assumption | rfl | omega | (intro z h0 h1; exact hI.2 z h0 (by omega)) | (intro z h0 h1; omega) | (exact upto_s (p := fun z v => v = nx (s.2 6) (s.2 7) z) hI.2 rfl) | grind [upI])
theorem vX3_lays_2 (s : MS) (hp : tOK (s.2 6) ∧ aOK (s.2 6) (s.2 7)) (x1 : Int) (f11 : Int → Int) (f12 : Int → Int) (f13 : Int → Int) (k25 : Int) (hI : (0 ≤ x1 ∧ x1 ≤ s.2 6 2) ∧ ∀ z : Int, 0 ≤ z → z < x1 → f13 z = nx (s.2 6) (s.2 7) z) (c_1 : ¬ (s.2 6 2) ≤ x1) : (tOK (s.2 6) ∧ aOK (s.2 6) (s.2 7) ∧ 0 ≤ x1 ∧ x1 < (s.2 6) 2 ∧ 0 ≤ (s.2 6 3) ∧ (s.2 6 3) ≤ (s.2 6) 3) := by
  obtain ⟨ht, ha⟩ := hp
  have hW := tOK_W ht
  have hN := tOK_N ht
  (try unfold lex3)
  (try simp only [bI_0, bI_n, Classical.not_not] at *)
  (try simp (disch := omega) only [i32_id] at *)
  first | done | omega | ((repeat' (with_reducible apply And.intro)) <;> first | assumption | rfl | omega | (intro z h0 h1; exact hI.2 z h0 (by omega)) | (intro z h0 h1; omega) | (exact upto_s (p := fun z v => v = nx (s.2 6) (s.2 7) z) hI.2 rfl) | grind [upI])
theorem vX3_lays_3 (s : MS) (hp : tOK (s.2 6) ∧ aOK (s.2 6) (s.2 7)) (x1 : Int) (f11 : Int → Int) (f12 : Int → Int) (f13 : Int → Int) (k25 : Int) (hI : (0 ≤ x1 ∧ x1 ≤ s.2 6 2) ∧ ∀ z : Int, 0 ≤ z → z < x1 → f13 z = nx (s.2 6) (s.2 7) z) (c_1 : ¬ (s.2 6 2) ≤ x1) (o_2 : (tOK (s.2 6) ∧ aOK (s.2 6) (s.2 7) ∧ 0 ≤ x1 ∧ x1 < (s.2 6) 2 ∧ 0 ≤ (s.2 6 3) ∧ (s.2 6 3) ≤ (s.2 6) 3)) (f_3 : Int → Int) (f_4 : Int → Int) : (0 ≤ x1 ∧ x1 < 10000) := by
  obtain ⟨ht, ha⟩ := hp
  have hW := tOK_W ht
  have hN := tOK_N ht
  (try unfold lex3)
  (try simp only [bI_0, bI_n, Classical.not_not] at *)
  (try simp (disch := omega) only [i32_id] at *)
  first | done | omega | ((repeat' (with_reducible apply And.intro)) <;> first | assumption | rfl | omega | (intro z h0 h1; exact hI.2 z h0 (by omega)) | (intro z h0 h1; omega) | (exact upto_s (p := fun z v => v = nx (s.2 6) (s.2 7) z) hI.2 rfl) | grind [upI])
theorem vX3_lays_4 (s : MS) (hp : tOK (s.2 6) ∧ aOK (s.2 6) (s.2 7)) (x1 : Int) (f11 : Int → Int) (f12 : Int → Int) (f13 : Int → Int) (k25 : Int) (hI : (0 ≤ x1 ∧ x1 ≤ s.2 6 2) ∧ ∀ z : Int, 0 ≤ z → z < x1 → f13 z = nx (s.2 6) (s.2 7) z) (c_1 : ¬ (s.2 6 2) ≤ x1) (o_2 : (tOK (s.2 6) ∧ aOK (s.2 6) (s.2 7) ∧ 0 ≤ x1 ∧ x1 < (s.2 6) 2 ∧ 0 ≤ (s.2 6 3) ∧ (s.2 6 3) ≤ (s.2 6) 3)) (f_3 : Int → Int) (f_4 : Int → Int) (o_6 : (0 ≤ x1 ∧ x1 < 10000)) : (0 ≤ (i32 (x1 + 1)) ∧ (i32 (x1 + 1)) ≤ s.2 6 2) ∧ ∀ z : Int, 0 ≤ z → z < (i32 (x1 + 1)) → (upI f13 x1 ((thrS (s.2 6) (s.2 7) x1 ((s.2 6 3)).toNat).2)) z = nx (s.2 6) (s.2 7) z := by
  obtain ⟨ht, ha⟩ := hp
  have hW := tOK_W ht
  have hN := tOK_N ht
  (try unfold lex3)
  (try simp only [bI_0, bI_n, Classical.not_not] at *)
  (try simp (disch := omega) only [i32_id] at *)
  first | done | omega | ((repeat' (with_reducible apply And.intro)) <;> first | assumption | rfl | omega | (intro z h0 h1; exact hI.2 z h0 (by omega)) | (intro z h0 h1; omega) | (exact upto_s (p := fun z v => v = nx (s.2 6) (s.2 7) z) hI.2 rfl) | grind [upI])
theorem vX3_lays_5 (s : MS) (hp : tOK (s.2 6) ∧ aOK (s.2 6) (s.2 7)) (x1 : Int) (f11 : Int → Int) (f12 : Int → Int) (f13 : Int → Int) (k25 : Int) (hI : (0 ≤ x1 ∧ x1 ≤ s.2 6 2) ∧ ∀ z : Int, 0 ≤ z → z < x1 → f13 z = nx (s.2 6) (s.2 7) z) (c_1 : ¬ (s.2 6 2) ≤ x1) (o_2 : (tOK (s.2 6) ∧ aOK (s.2 6) (s.2 7) ∧ 0 ≤ x1 ∧ x1 < (s.2 6) 2 ∧ 0 ≤ (s.2 6 3) ∧ (s.2 6 3) ≤ (s.2 6) 3)) (f_3 : Int → Int) (f_4 : Int → Int) (o_6 : (0 ≤ x1 ∧ x1 < 10000)) : lex3 0 0 ((s.2 6 2 - (i32 (x1 + 1))).toNat) 0 0 ((s.2 6 2 - x1).toNat) := by
  obtain ⟨ht, ha⟩ := hp
  have hW := tOK_W ht
  have hN := tOK_N ht
  (try unfold lex3)
  (try simp only [bI_0, bI_n, Classical.not_not] at *)
  (try simp (disch := omega) only [i32_id] at *)
  first | done | omega | ((repeat' (with_reducible apply And.intro)) <;> first | assumption | rfl | omega | (intro z h0 h1; exact hI.2 z h0 (by omega)) | (intro z h0 h1; omega) | (exact upto_s (p := fun z v => v = nx (s.2 6) (s.2 7) z) hI.2 rfl) | grind [upI])
theorem vX3_lays_6 (s : MS) (hp : tOK (s.2 6) ∧ aOK (s.2 6) (s.2 7)) : (0 ≤ (0 : Int) ∧ (0 : Int) ≤ s.2 6 2) ∧ ∀ z : Int, 0 ≤ z → z < (0 : Int) → (s.2 13) z = nx (s.2 6) (s.2 7) z := by
  obtain ⟨ht, ha⟩ := hp
  have hW := tOK_W ht
  have hN := tOK_N ht
  (try unfold lex3)
  (try simp only [bI_0, bI_n, Classical.not_not] at *)
  (try simp (disch := omega) only [i32_id] at *)
  first | done | omega | ((repeat' (with_reducible apply And.intro)) <;> first | assumption | rfl | omega | (intro z h0 h1; exact hI.2 z h0 (by omega)) | (intro z h0 h1; omega) | (exact upto_s (p := fun z v => v = nx (s.2 6) (s.2 7) z) hI.2 rfl) | grind [upI])
theorem allX3_lays (b : AH) (s : MS) (hp : tOK (s.2 6) ∧ aOK (s.2 6) (s.2 7)) : ∀ m1 m2 m3 : Nat, (∀ (x1 : Int) (f11 : Int → Int) (f12 : Int → Int) (f13 : Int → Int) (k25 : Int), m1 = 0 → m2 = 0 → m3 = ((s.2 6 2 - x1).toNat) → ((0 ≤ x1 ∧ x1 ≤ s.2 6 2) ∧ ∀ z : Int, 0 ≤ z → z < x1 → f13 z = nx (s.2 6) (s.2 7) z) → HX3_lays_2 (QX3_lays s) b s x1 f11 f12 f13 k25) := by
  refine lex3_ind ?_
  intro m1 m2 m3 ih
  rintro x1 f11 f12 f13 k25 rfl rfl rfl hI
  refine bX3_lays_2 b s x1 f11 f12 f13 k25 ?_
  refine ⟨fun c_1 => ?_, fun c_1 => ?_⟩
  · exact ⟨f11, f12, f13, k25, rfl, rfl, (vX3_lays_1 s hp x1 f11 f12 f13 k25 hI c_1)⟩
  · have o_2 : (tOK (s.2 6) ∧ aOK (s.2 6) (s.2 7) ∧ 0 ≤ x1 ∧ x1 < (s.2 6) 2 ∧ 0 ≤ (s.2 6 3) ∧ (s.2 6 3) ≤ (s.2 6) 3) := (vX3_lays_2 s hp x1 f11 f12 f13 k25 hI c_1)
    refine ⟨o_2, ?_⟩
    intro f_3 f_4
    have o_6 : (0 ≤ x1 ∧ x1 < 10000) := (vX3_lays_3 s hp x1 f11 f12 f13 k25 hI c_1 o_2 f_3 f_4)
    refine ⟨o_6, ?_⟩
    exact (ih _ _ _ (vX3_lays_5 s hp x1 f11 f12 f13 k25 hI c_1 o_2 f_3 f_4 o_6)) (i32 (x1 + 1)) f_3 f_4 (upI f13 x1 ((thrS (s.2 6) (s.2 7) x1 ((s.2 6 3)).toNat).2)) ((thrS (s.2 6) (s.2 7) x1 ((s.2 6 3)).toNat).1) rfl rfl rfl (vX3_lays_4 s hp x1 f11 f12 f13 k25 hI c_1 o_2 f_3 f_4 o_6)
theorem ctX3_lays (b : AH) (s : MS) (hp : tOK (s.2 6) ∧ aOK (s.2 6) (s.2 7)) : MC mX3_lays 6 b s [] (QX3_lays s) := by
  refine MC.of (by decide) rfl (Nat.le_of_ble_eq_true rfl) (JW.steq (s2 := sS (sA (sA (sA s 11 (s.2 11)) 12 (s.2 12)) 13 (s.2 13)) 25 (s.1 25)) (by simp only [sA_id, sS_id]) ?_)
  refine bX3_lays_0 b s (s.2 11) (s.2 12) (s.2 13) (s.1 25) ?_
  exact (allX3_lays b s hp _ _ _) 0 (s.2 11) (s.2 12) (s.2 13) (s.1 25) rfl rfl rfl (vX3_lays_6 s hp)
