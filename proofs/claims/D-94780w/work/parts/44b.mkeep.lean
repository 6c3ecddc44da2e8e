/-! contracts of the reference: keep restore -/
set_option maxRecDepth 100000
def HX3_keep_0 (Q : Option AV → MS → Prop) (b : AH) (s : MS) (x1 : Int) (f5 : Int → Int) (f6 : Int → Int) (f7 : Int → Int) (f8 : Int → Int) (f9 : Int → Int) (f10 : Int → Int) (k0 : Int) : Prop := MW mX3_keep 3 Q b 0 [(0, vR 351), (1, vI x1)] [] (sS (sA (sA (sA (sA (sA (sA s 5 f5) 6 f6) 7 f7) 8 f8) 9 f9) 10 f10) 0 k0)
theorem bX3_keep_0 {Q : Option AV → MS → Prop} (b : AH) (s : MS) (x1 : Int) (f5 : Int → Int) (f6 : Int → Int) (f7 : Int → Int) (f8 : Int → Int) (f9 : Int → Int) (f10 : Int → Int) (k0 : Int) (K : (¬ (bI ((0 : Int) ≤ x1 ∧ x1 ≤ (2 : Int))) = 0 → ((0 ≤ (0 : Int) ∧ (0 : Int) ≤ 4) ∧ (0 ≤ (i32 (1 + x1)) ∧ (i32 (1 + x1)) ≤ 4) ∧ (0 : Int) ≠ (i32 (1 + x1))) ∧ ((0 ≤ x1 ∧ x1 < 3) ∧ (Q (some (vI 0)) (sS (sA (sA (sA (sA (sA (sA s 5 (cpT 1 (0 : Int) (i32 (1 + x1)) f5)) 6 (cpT 6 (0 : Int) (i32 (1 + x1)) f6)) 7 (cpT 24 (0 : Int) (i32 (1 + x1)) f7)) 8 (cpT 24 (0 : Int) (i32 (1 + x1)) f8)) 9 (cpT 20 (0 : Int) (i32 (1 + x1)) f9)) 10 (upI f10 x1 1)) 0 0)))) ∧ ((bI ((0 : Int) ≤ x1 ∧ x1 ≤ (2 : Int))) = 0 → Q (some (vI (-2))) (sS (sA (sA (sA (sA (sA (sA s 5 f5) 6 f6) 7 f7) 8 f8) 9 f9) 10 f10) 0 0))) : HX3_keep_0 Q b s x1 f5 f6 f7 f8 f9 f10 k0 := by
  refine JW.aload_n dX3_keep_0 rfl ?_
  refine JW.iconst dX3_keep_1 rfl ?_
  refine JW.mputI dX3_keep_2 (pX3_77 _) rfl ?_
  refine JW.steq (s2 := sS (sA (sA (sA (sA (sA (sA s 5 f5) 6 f6) 7 f7) 8 f8) 9 f9) 10 f10) 0 0) (by simp only [sA_A, sS_S, sA_S, sA_lt, sS_lt, Nat.reduceLT, id_eq] <;> rfl) ?_
  refine JW.iload_n dX3_keep_5 rfl ?_
  refine JW.i2l dX3_keep_6 ?_
  refine JW.lconst (x := 0) dX3_keep_7 rfl ?_
  refine JW.ldc2 (x := 2) dX3_keep_8 q1923 rfl ?_
  refine JW.mcallS (As := [vL x1, vL 0, vL 2]) dX3_keep_11 vX3_in q1632 (ctX3_in b (sS (sA (sA (sA (sA (sA (sA s 5 f5) 6 f6) 7 f7) 8 f8) 9 f9) 10 f10) 0 0) x1 0 2) (Nat.le_of_ble_eq_true rfl) rfl (Nat.le_of_ble_eq_true rfl) ?_
  rintro _ _ ⟨rfl, eq_1⟩
  refine JW.steq (s2 := sS (sA (sA (sA (sA (sA (sA s 5 f5) 6 f6) 7 f7) 8 f8) 9 f9) 10 f10) 0 0) eq_1 ?_
  refine JW.if_ne (tgt := 20) dX3_keep_14 rfl (fun c_2 => ?_) (fun c_2 => ?_)
  · have K := K.1 c_2
    refine JW.aload_n dX3_keep_20 rfl ?_
    refine JW.iconst dX3_keep_21 rfl ?_
    refine JW.iconst dX3_keep_22 rfl ?_
    refine JW.iload_n dX3_keep_23 rfl ?_
    refine JW.iadd dX3_keep_24 ?_
    obtain ⟨o_3, K⟩ := K
    refine JW.mcall (As := [vI 0, vI (i32 (1 + x1))]) dX3_keep_25 vX3_copyTable rfl q1773 (ctX3_copyTable b (sS (sA (sA (sA (sA (sA (sA s 5 f5) 6 f6) 7 f7) 8 f8) 9 f9) 10 f10) 0 0) 0 (i32 (1 + x1)) o_3) (Nat.le_of_ble_eq_true rfl) rfl (Nat.le_of_ble_eq_true rfl) ?_
    rintro _ _ ⟨rfl, rfl⟩
    refine JW.steq (s2 := sS (sA (sA (sA (sA (sA (sA s 5 (cpT 1 (0 : Int) (i32 (1 + x1)) f5)) 6 (cpT 6 (0 : Int) (i32 (1 + x1)) f6)) 7 (cpT 24 (0 : Int) (i32 (1 + x1)) f7)) 8 (cpT 24 (0 : Int) (i32 (1 + x1)) f8)) 9 (cpT 20 (0 : Int) (i32 (1 + x1)) f9)) 10 f10) 0 0) (by simp only [sA_A, sS_S, sA_S, sA_lt, sS_lt, Nat.reduceLT, id_eq] <;> rfl) ?_
    refine JW.aload_n dX3_keep_28 rfl ?_
    refine JW.mget (v := vR 362) dX3_keep_29 fX3_46 rfl ?_
    refine JW.iload_n dX3_keep_32 rfl ?_
    refine JW.iconst dX3_keep_33 rfl ?_
    obtain ⟨o_5, K⟩ := K
    refine JW.mzst 10 (f := f10) dX3_keep_34 (Nat.le_of_ble_eq_true rfl) rfl o_5.1 o_5.2 (Or.inr rfl) rfl ?_
    refine JW.steq (s2 := sS (sA (sA (sA (sA (sA (sA s 5 (cpT 1 (0 : Int) (i32 (1 + x1)) f5)) 6 (cpT 6 (0 : Int) (i32 (1 + x1)) f6)) 7 (cpT 24 (0 : Int) (i32 (1 + x1)) f7)) 8 (cpT 24 (0 : Int) (i32 (1 + x1)) f8)) 9 (cpT 20 (0 : Int) (i32 (1 + x1)) f9)) 10 (upI f10 x1 1)) 0 0) (by simp only [sA_A, sS_S, sA_S, sA_lt, sS_lt, Nat.reduceLT, id_eq] <;> rfl) ?_
    refine JW.iconst dX3_keep_35 rfl ?_
    exact JW.ireturn dX3_keep_36 rfl rfl ⟨_, rfl, K⟩
  · have K := K.2 c_2
    refine JW.bipush dX3_keep_17 rfl ?_
    exact JW.ireturn dX3_keep_19 rfl rfl ⟨_, rfl, K⟩
def QX3_keep (s : MS) (a1 : Int) : Option AV → MS → Prop := fun v s' => v = some (vI (if (0 ≤ a1 ∧ a1 ≤ 2) then 0 else -2)) ∧ s' = sS (sA (sA (sA (sA (sA (sA s 5 (if (0 ≤ a1 ∧ a1 ≤ 2) then cpT 1 0 (1 + a1) (s.2 5) else (s.2 5))) 6 (if (0 ≤ a1 ∧ a1 ≤ 2) then cpT 6 0 (1 + a1) (s.2 6) else (s.2 6))) 7 (if (0 ≤ a1 ∧ a1 ≤ 2) then cpT 24 0 (1 + a1) (s.2 7) else (s.2 7))) 8 (if (0 ≤ a1 ∧ a1 ≤ 2) then cpT 24 0 (1 + a1) (s.2 8) else (s.2 8))) 9 (if (0 ≤ a1 ∧ a1 ≤ 2) then cpT 20 0 (1 + a1) (s.2 9) else (s.2 9))) 10 (if (0 ≤ a1 ∧ a1 ≤ 2) then upI (s.2 10) a1 1 else (s.2 10))) 0 (0)
theorem vX3_keep_1 (s : MS) (a1 : Int) (c_2 : ¬ (bI ((0 : Int) ≤ a1 ∧ a1 ≤ (2 : Int))) = 0) : ((0 ≤ (0 : Int) ∧ (0 : Int) ≤ 4) ∧ (0 ≤ (i32 (1 + a1)) ∧ (i32 (1 + a1)) ≤ 4) ∧ (0 : Int) ≠ (i32 (1 + a1))) := by
  (try simp only [bI_0, bI_n, Classical.not_not] at *)
  (try simp (disch := omega) only [i32_id] at *)
  (try unfold lex3)
  (try simp only [bI_0, bI_n, Classical.not_not] at *)
  (try simp (disch := omega) only [i32_id] at *)
  first | done | omega | ((repeat' (with_reducible apply And.intro)) <;> first | assumption | rfl | omega | (rw [if_pos (by omega)]) | (rw [if_neg (by omega)]) | grind [upI])
theorem vX3_keep_2 (s : MS) (a1 : Int) (c_2 : ¬ (bI ((0 : Int) ≤ a1 ∧ a1 ≤ (2 : Int))) = 0) (o_3 : ((0 ≤ (0 : Int) ∧ (0 : Int) ≤ 4) ∧ (0 ≤ (i32 (1 + a1)) ∧ (i32 (1 + a1)) ≤ 4) ∧ (0 : Int) ≠ (i32 (1 + a1)))) : (0 ≤ a1 ∧ a1 < 3) := by
  (try simp only [bI_0, bI_n, Classical.not_not] at *)
  (try simp (disch := omega) only [i32_id] at *)
  (try unfold lex3)
  (try simp only [bI_0, bI_n, Classical.not_not] at *)
  (try simp (disch := omega) only [i32_id] at *)
  first | done | omega | ((repeat' (with_reducible apply And.intro)) <;> first | assumption | rfl | omega | (rw [if_pos (by omega)]) | (rw [if_neg (by omega)]) | grind [upI])
theorem vX3_keep_3 (s : MS) (a1 : Int) (c_2 : ¬ (bI ((0 : Int) ≤ a1 ∧ a1 ≤ (2 : Int))) = 0) (o_3 : ((0 ≤ (0 : Int) ∧ (0 : Int) ≤ 4) ∧ (0 ≤ (i32 (1 + a1)) ∧ (i32 (1 + a1)) ≤ 4) ∧ (0 : Int) ≠ (i32 (1 + a1)))) (o_5 : (0 ≤ a1 ∧ a1 < 3)) : (cpT 1 (0 : Int) (i32 (1 + a1)) (s.2 5)) = (if (0 ≤ a1 ∧ a1 ≤ 2) then cpT 1 0 (1 + a1) (s.2 5) else (s.2 5)) := by
  (try simp only [bI_0, bI_n, Classical.not_not] at *)
  (try simp (disch := omega) only [i32_id] at *)
  (try unfold lex3)
  (try simp only [bI_0, bI_n, Classical.not_not] at *)
  (try simp (disch := omega) only [i32_id] at *)
  first | done | omega | ((repeat' (with_reducible apply And.intro)) <;> first | assumption | rfl | omega | (rw [if_pos (by omega)]) | (rw [if_neg (by omega)]) | grind [upI])
theorem vX3_keep_4 (s : MS) (a1 : Int) (c_2 : ¬ (bI ((0 : Int) ≤ a1 ∧ a1 ≤ (2 : Int))) = 0) (o_3 : ((0 ≤ (0 : Int) ∧ (0 : Int) ≤ 4) ∧ (0 ≤ (i32 (1 + a1)) ∧ (i32 (1 + a1)) ≤ 4) ∧ (0 : Int) ≠ (i32 (1 + a1)))) (o_5 : (0 ≤ a1 ∧ a1 < 3)) : (cpT 6 (0 : Int) (i32 (1 + a1)) (s.2 6)) = (if (0 ≤ a1 ∧ a1 ≤ 2) then cpT 6 0 (1 + a1) (s.2 6) else (s.2 6)) := by
  (try simp only [bI_0, bI_n, Classical.not_not] at *)
  (try simp (disch := omega) only [i32_id] at *)
  (try unfold lex3)
  (try simp only [bI_0, bI_n, Classical.not_not] at *)
  (try simp (disch := omega) only [i32_id] at *)
  first | done | omega | ((repeat' (with_reducible apply And.intro)) <;> first | assumption | rfl | omega | (rw [if_pos (by omega)]) | (rw [if_neg (by omega)]) | grind [upI])
theorem vX3_keep_5 (s : MS) (a1 : Int) (c_2 : ¬ (bI ((0 : Int) ≤ a1 ∧ a1 ≤ (2 : Int))) = 0) (o_3 : ((0 ≤ (0 : Int) ∧ (0 : Int) ≤ 4) ∧ (0 ≤ (i32 (1 + a1)) ∧ (i32 (1 + a1)) ≤ 4) ∧ (0 : Int) ≠ (i32 (1 + a1)))) (o_5 : (0 ≤ a1 ∧ a1 < 3)) : (cpT 24 (0 : Int) (i32 (1 + a1)) (s.2 7)) = (if (0 ≤ a1 ∧ a1 ≤ 2) then cpT 24 0 (1 + a1) (s.2 7) else (s.2 7)) := by
  (try simp only [bI_0, bI_n, Classical.not_not] at *)
  (try simp (disch := omega) only [i32_id] at *)
  (try unfold lex3)
  (try simp only [bI_0, bI_n, Classical.not_not] at *)
  (try simp (disch := omega) only [i32_id] at *)
  first | done | omega | ((repeat' (with_reducible apply And.intro)) <;> first | assumption | rfl | omega | (rw [if_pos (by omega)]) | (rw [if_neg (by omega)]) | grind [upI])
theorem vX3_keep_6 (s : MS) (a1 : Int) (c_2 : ¬ (bI ((0 : Int) ≤ a1 ∧ a1 ≤ (2 : Int))) = 0) (o_3 : ((0 ≤ (0 : Int) ∧ (0 : Int) ≤ 4) ∧ (0 ≤ (i32 (1 + a1)) ∧ (i32 (1 + a1)) ≤ 4) ∧ (0 : Int) ≠ (i32 (1 + a1)))) (o_5 : (0 ≤ a1 ∧ a1 < 3)) : (cpT 24 (0 : Int) (i32 (1 + a1)) (s.2 8)) = (if (0 ≤ a1 ∧ a1 ≤ 2) then cpT 24 0 (1 + a1) (s.2 8) else (s.2 8)) := by
  (try simp only [bI_0, bI_n, Classical.not_not] at *)
  (try simp (disch := omega) only [i32_id] at *)
  (try unfold lex3)
  (try simp only [bI_0, bI_n, Classical.not_not] at *)
  (try simp (disch := omega) only [i32_id] at *)
  first | done | omega | ((repeat' (with_reducible apply And.intro)) <;> first | assumption | rfl | omega | (rw [if_pos (by omega)]) | (rw [if_neg (by omega)]) | grind [upI])
theorem vX3_keep_7 (s : MS) (a1 : Int) (c_2 : ¬ (bI ((0 : Int) ≤ a1 ∧ a1 ≤ (2 : Int))) = 0) (o_3 : ((0 ≤ (0 : Int) ∧ (0 : Int) ≤ 4) ∧ (0 ≤ (i32 (1 + a1)) ∧ (i32 (1 + a1)) ≤ 4) ∧ (0 : Int) ≠ (i32 (1 + a1)))) (o_5 : (0 ≤ a1 ∧ a1 < 3)) : (cpT 20 (0 : Int) (i32 (1 + a1)) (s.2 9)) = (if (0 ≤ a1 ∧ a1 ≤ 2) then cpT 20 0 (1 + a1) (s.2 9) else (s.2 9)) := by
  (try simp only [bI_0, bI_n, Classical.not_not] at *)
  (try simp (disch := omega) only [i32_id] at *)
  (try unfold lex3)
  (try simp only [bI_0, bI_n, Classical.not_not] at *)
  (try simp (disch := omega) only [i32_id] at *)
  first | done | omega | ((repeat' (with_reducible apply And.intro)) <;> first | assumption | rfl | omega | (rw [if_pos (by omega)]) | (rw [if_neg (by omega)]) | grind [upI])
theorem vX3_keep_8 (s : MS) (a1 : Int) (c_2 : ¬ (bI ((0 : Int) ≤ a1 ∧ a1 ≤ (2 : Int))) = 0) (o_3 : ((0 ≤ (0 : Int) ∧ (0 : Int) ≤ 4) ∧ (0 ≤ (i32 (1 + a1)) ∧ (i32 (1 + a1)) ≤ 4) ∧ (0 : Int) ≠ (i32 (1 + a1)))) (o_5 : (0 ≤ a1 ∧ a1 < 3)) : (upI (s.2 10) a1 1) = (if (0 ≤ a1 ∧ a1 ≤ 2) then upI (s.2 10) a1 1 else (s.2 10)) := by
  (try simp only [bI_0, bI_n, Classical.not_not] at *)
  (try simp (disch := omega) only [i32_id] at *)
  (try unfold lex3)
  (try simp only [bI_0, bI_n, Classical.not_not] at *)
  (try simp (disch := omega) only [i32_id] at *)
  first | done | omega | ((repeat' (with_reducible apply And.intro)) <;> first | assumption | rfl | omega | (rw [if_pos (by omega)]) | (rw [if_neg (by omega)]) | grind [upI])
theorem vX3_keep_9 (s : MS) (a1 : Int) (c_2 : ¬ (bI ((0 : Int) ≤ a1 ∧ a1 ≤ (2 : Int))) = 0) (o_3 : ((0 ≤ (0 : Int) ∧ (0 : Int) ≤ 4) ∧ (0 ≤ (i32 (1 + a1)) ∧ (i32 (1 + a1)) ≤ 4) ∧ (0 : Int) ≠ (i32 (1 + a1)))) (o_5 : (0 ≤ a1 ∧ a1 < 3)) : 0 = (if (0 ≤ a1 ∧ a1 ≤ 2) then 0 else -2) := by
  (try simp only [bI_0, bI_n, Classical.not_not] at *)
  (try simp (disch := omega) only [i32_id] at *)
  (try unfold lex3)
  (try simp only [bI_0, bI_n, Classical.not_not] at *)
  (try simp (disch := omega) only [i32_id] at *)
  first | done | omega | ((repeat' (with_reducible apply And.intro)) <;> first | assumption | rfl | omega | (rw [if_pos (by omega)]) | (rw [if_neg (by omega)]) | grind [upI])
theorem vX3_keep_10 (s : MS) (a1 : Int) (c_2 : (bI ((0 : Int) ≤ a1 ∧ a1 ≤ (2 : Int))) = 0) : (s.2 5) = (if (0 ≤ a1 ∧ a1 ≤ 2) then cpT 1 0 (1 + a1) (s.2 5) else (s.2 5)) := by
  (try simp only [bI_0, bI_n, Classical.not_not] at *)
  (try simp (disch := omega) only [i32_id] at *)
  (try unfold lex3)
  (try simp only [bI_0, bI_n, Classical.not_not] at *)
  (try simp (disch := omega) only [i32_id] at *)
  first | done | omega | ((repeat' (with_reducible apply And.intro)) <;> first | assumption | rfl | omega | (rw [if_pos (by omega)]) | (rw [if_neg (by omega)]) | grind [upI])
theorem vX3_keep_11 (s : MS) (a1 : Int) (c_2 : (bI ((0 : Int) ≤ a1 ∧ a1 ≤ (2 : Int))) = 0) : (s.2 6) = (if (0 ≤ a1 ∧ a1 ≤ 2) then cpT 6 0 (1 + a1) (s.2 6) else (s.2 6)) := by
  (try simp only [bI_0, bI_n, Classical.not_not] at *)
  (try simp (disch := omega) only [i32_id] at *)
  (try unfold lex3)
  (try simp only [bI_0, bI_n, Classical.not_not] at *)
  (try simp (disch := omega) only [i32_id] at *)
  first | done | omega | ((repeat' (with_reducible apply And.intro)) <;> first | assumption | rfl | omega | (rw [if_pos (by omega)]) | (rw [if_neg (by omega)]) | grind [upI])
theorem vX3_keep_12 (s : MS) (a1 : Int) (c_2 : (bI ((0 : Int) ≤ a1 ∧ a1 ≤ (2 : Int))) = 0) : (s.2 7) = (if (0 ≤ a1 ∧ a1 ≤ 2) then cpT 24 0 (1 + a1) (s.2 7) else (s.2 7)) := by
  (try simp only [bI_0, bI_n, Classical.not_not] at *)
  (try simp (disch := omega) only [i32_id] at *)
  (try unfold lex3)
  (try simp only [bI_0, bI_n, Classical.not_not] at *)
  (try simp (disch := omega) only [i32_id] at *)
  first | done | omega | ((repeat' (with_reducible apply And.intro)) <;> first | assumption | rfl | omega | (rw [if_pos (by omega)]) | (rw [if_neg (by omega)]) | grind [upI])
theorem vX3_keep_13 (s : MS) (a1 : Int) (c_2 : (bI ((0 : Int) ≤ a1 ∧ a1 ≤ (2 : Int))) = 0) : (s.2 8) = (if (0 ≤ a1 ∧ a1 ≤ 2) then cpT 24 0 (1 + a1) (s.2 8) else (s.2 8)) := by
  (try simp only [bI_0, bI_n, Classical.not_not] at *)
  (try simp (disch := omega) only [i32_id] at *)
  (try unfold lex3)
  (try simp only [bI_0, bI_n, Classical.not_not] at *)
  (try simp (disch := omega) only [i32_id] at *)
  first | done | omega | ((repeat' (with_reducible apply And.intro)) <;> first | assumption | rfl | omega | (rw [if_pos (by omega)]) | (rw [if_neg (by omega)]) | grind [upI])
theorem vX3_keep_14 (s : MS) (a1 : Int) (c_2 : (bI ((0 : Int) ≤ a1 ∧ a1 ≤ (2 : Int))) = 0) : (s.2 9) = (if (0 ≤ a1 ∧ a1 ≤ 2) then cpT 20 0 (1 + a1) (s.2 9) else (s.2 9)) := by
  (try simp only [bI_0, bI_n, Classical.not_not] at *)
  (try simp (disch := omega) only [i32_id] at *)
  (try unfold lex3)
  (try simp only [bI_0, bI_n, Classical.not_not] at *)
  (try simp (disch := omega) only [i32_id] at *)
  first | done | omega | ((repeat' (with_reducible apply And.intro)) <;> first | assumption | rfl | omega | (rw [if_pos (by omega)]) | (rw [if_neg (by omega)]) | grind [upI])
theorem vX3_keep_15 (s : MS) (a1 : Int) (c_2 : (bI ((0 : Int) ≤ a1 ∧ a1 ≤ (2 : Int))) = 0) : (s.2 10) = (if (0 ≤ a1 ∧ a1 ≤ 2) then upI (s.2 10) a1 1 else (s.2 10)) := by
  (try simp only [bI_0, bI_n, Classical.not_not] at *)
  (try simp (disch := omega) only [i32_id] at *)
  (try unfold lex3)
  (try simp only [bI_0, bI_n, Classical.not_not] at *)
  (try simp (disch := omega) only [i32_id] at *)
  first | done | omega | ((repeat' (with_reducible apply And.intro)) <;> first | assumption | rfl | omega | (rw [if_pos (by omega)]) | (rw [if_neg (by omega)]) | grind [upI])
theorem vX3_keep_16 (s : MS) (a1 : Int) (c_2 : (bI ((0 : Int) ≤ a1 ∧ a1 ≤ (2 : Int))) = 0) : (-2) = (if (0 ≤ a1 ∧ a1 ≤ 2) then 0 else -2) := by
  (try simp only [bI_0, bI_n, Classical.not_not] at *)
  (try simp (disch := omega) only [i32_id] at *)
  (try unfold lex3)
  (try simp only [bI_0, bI_n, Classical.not_not] at *)
  (try simp (disch := omega) only [i32_id] at *)
  first | done | omega | ((repeat' (with_reducible apply And.intro)) <;> first | assumption | rfl | omega | (rw [if_pos (by omega)]) | (rw [if_neg (by omega)]) | grind [upI])
theorem ctX3_keep (b : AH) (s : MS) (a1 : Int) : MC mX3_keep 3 b s [vI a1] (QX3_keep s a1) := by
  refine MC.of (by decide) rfl (Nat.le_of_ble_eq_true rfl) (JW.steq (s2 := sS (sA (sA (sA (sA (sA (sA s 5 (s.2 5)) 6 (s.2 6)) 7 (s.2 7)) 8 (s.2 8)) 9 (s.2 9)) 10 (s.2 10)) 0 (s.1 0)) (by simp only [sA_id, sS_id]) ?_)
  refine bX3_keep_0 b s a1 (s.2 5) (s.2 6) (s.2 7) (s.2 8) (s.2 9) (s.2 10) (s.1 0) ?_
  refine ⟨fun c_2 => ?_, fun c_2 => ?_⟩
  · have o_3 : ((0 ≤ (0 : Int) ∧ (0 : Int) ≤ 4) ∧ (0 ≤ (i32 (1 + a1)) ∧ (i32 (1 + a1)) ≤ 4) ∧ (0 : Int) ≠ (i32 (1 + a1))) := (vX3_keep_1 s a1 c_2)
    refine ⟨o_3, ?_⟩
    have o_5 : (0 ≤ a1 ∧ a1 < 3) := (vX3_keep_2 s a1 c_2 o_3)
    refine ⟨o_5, ?_⟩
    exact ⟨(rI_c (vX3_keep_9 s a1 c_2 o_3 o_5)), (sS_c (sA_c (sA_c (sA_c (sA_c (sA_c (sA_c rfl (vX3_keep_3 s a1 c_2 o_3 o_5)) (vX3_keep_4 s a1 c_2 o_3 o_5)) (vX3_keep_5 s a1 c_2 o_3 o_5)) (vX3_keep_6 s a1 c_2 o_3 o_5)) (vX3_keep_7 s a1 c_2 o_3 o_5)) (vX3_keep_8 s a1 c_2 o_3 o_5)) rfl)⟩
  · exact ⟨(rI_c (vX3_keep_16 s a1 c_2)), (sS_c (sA_c (sA_c (sA_c (sA_c (sA_c (sA_c rfl (vX3_keep_10 s a1 c_2)) (vX3_keep_11 s a1 c_2)) (vX3_keep_12 s a1 c_2)) (vX3_keep_13 s a1 c_2)) (vX3_keep_14 s a1 c_2)) (vX3_keep_15 s a1 c_2)) rfl)⟩
def HX3_restore_0 (Q : Option AV → MS → Prop) (b : AH) (s : MS) (x1 : Int) (f5 : Int → Int) (f6 : Int → Int) (f7 : Int → Int) (f8 : Int → Int) (f9 : Int → Int) (k0 : Int) : Prop := MW mX3_restore 3 Q b 0 [(0, vR 351), (1, vI x1)] [] (sS (sA (sA (sA (sA (sA s 5 f5) 6 f6) 7 f7) 8 f8) 9 f9) 0 k0)
theorem bX3_restore_0 {Q : Option AV → MS → Prop} (b : AH) (s : MS) (x1 : Int) (f5 : Int → Int) (f6 : Int → Int) (f7 : Int → Int) (f8 : Int → Int) (f9 : Int → Int) (k0 : Int) (K : (¬ (bI ((0 : Int) ≤ x1 ∧ x1 ≤ (2 : Int))) = 0 → (0 ≤ x1 ∧ x1 < 3) ∧ ((¬ (s.2 10 x1) = 0 → ((0 ≤ (i32 (1 + x1)) ∧ (i32 (1 + x1)) ≤ 4) ∧ (0 ≤ (0 : Int) ∧ (0 : Int) ≤ 4) ∧ (i32 (1 + x1)) ≠ (0 : Int)) ∧ (Q (some (vI 0)) (sS (sA (sA (sA (sA (sA s 5 (cpT 1 (i32 (1 + x1)) (0 : Int) f5)) 6 (cpT 6 (i32 (1 + x1)) (0 : Int) f6)) 7 (cpT 24 (i32 (1 + x1)) (0 : Int) f7)) 8 (cpT 24 (i32 (1 + x1)) (0 : Int) f8)) 9 (cpT 20 (i32 (1 + x1)) (0 : Int) f9)) 0 0))) ∧ ((s.2 10 x1) = 0 → Q (some (vI (-6))) (sS (sA (sA (sA (sA (sA s 5 f5) 6 f6) 7 f7) 8 f8) 9 f9) 0 0)))) ∧ ((bI ((0 : Int) ≤ x1 ∧ x1 ≤ (2 : Int))) = 0 → Q (some (vI (-2))) (sS (sA (sA (sA (sA (sA s 5 f5) 6 f6) 7 f7) 8 f8) 9 f9) 0 0))) : HX3_restore_0 Q b s x1 f5 f6 f7 f8 f9 k0 := by
  refine JW.aload_n dX3_restore_0 rfl ?_
  refine JW.iconst dX3_restore_1 rfl ?_
  refine JW.mputI dX3_restore_2 (pX3_77 _) rfl ?_
  refine JW.steq (s2 := sS (sA (sA (sA (sA (sA s 5 f5) 6 f6) 7 f7) 8 f8) 9 f9) 0 0) (by simp only [sA_A, sS_S, sA_S, sA_lt, sS_lt, Nat.reduceLT, id_eq] <;> rfl) ?_
  refine JW.iload_n dX3_restore_5 rfl ?_
  refine JW.i2l dX3_restore_6 ?_
  refine JW.lconst (x := 0) dX3_restore_7 rfl ?_
  refine JW.ldc2 (x := 2) dX3_restore_8 q1923 rfl ?_
  refine JW.mcallS (As := [vL x1, vL 0, vL 2]) dX3_restore_11 vX3_in q1632 (ctX3_in b (sS (sA (sA (sA (sA (sA s 5 f5) 6 f6) 7 f7) 8 f8) 9 f9) 0 0) x1 0 2) (Nat.le_of_ble_eq_true rfl) rfl (Nat.le_of_ble_eq_true rfl) ?_
  rintro _ _ ⟨rfl, eq_1⟩
  refine JW.steq (s2 := sS (sA (sA (sA (sA (sA s 5 f5) 6 f6) 7 f7) 8 f8) 9 f9) 0 0) eq_1 ?_
  refine JW.if_ne (tgt := 20) dX3_restore_14 rfl (fun c_2 => ?_) (fun c_2 => ?_)
  · have K := K.1 c_2
    refine JW.aload_n dX3_restore_20 rfl ?_
    refine JW.mget (v := vR 362) dX3_restore_21 fX3_46 rfl ?_
    refine JW.iload_n dX3_restore_24 rfl ?_
    obtain ⟨o_3, K⟩ := K
    refine JW.mzld 10 (x := (s.2 10 x1)) dX3_restore_25 (Nat.le_of_ble_eq_true rfl) rfl o_3.1 o_3.2 rfl ?_
    refine JW.if_ne (tgt := 32) dX3_restore_26 rfl (fun c_4 => ?_) (fun c_4 => ?_)
    · have K := K.1 c_4
      refine JW.aload_n dX3_restore_32 rfl ?_
      refine JW.iconst dX3_restore_33 rfl ?_
      refine JW.iload_n dX3_restore_34 rfl ?_
      refine JW.iadd dX3_restore_35 ?_
      refine JW.iconst dX3_restore_36 rfl ?_
      obtain ⟨o_5, K⟩ := K
      refine JW.mcall (As := [vI (i32 (1 + x1)), vI 0]) dX3_restore_37 vX3_copyTable rfl q1773 (ctX3_copyTable b (sS (sA (sA (sA (sA (sA s 5 f5) 6 f6) 7 f7) 8 f8) 9 f9) 0 0) (i32 (1 + x1)) 0 o_5) (Nat.le_of_ble_eq_true rfl) rfl (Nat.le_of_ble_eq_true rfl) ?_
      rintro _ _ ⟨rfl, rfl⟩
      refine JW.steq (s2 := sS (sA (sA (sA (sA (sA s 5 (cpT 1 (i32 (1 + x1)) (0 : Int) f5)) 6 (cpT 6 (i32 (1 + x1)) (0 : Int) f6)) 7 (cpT 24 (i32 (1 + x1)) (0 : Int) f7)) 8 (cpT 24 (i32 (1 + x1)) (0 : Int) f8)) 9 (cpT 20 (i32 (1 + x1)) (0 : Int) f9)) 0 0) (by simp only [sA_A, sS_S, sA_S, sA_lt, sS_lt, Nat.reduceLT, id_eq] <;> rfl) ?_
      refine JW.iconst dX3_restore_40 rfl ?_
      exact JW.ireturn dX3_restore_41 rfl rfl ⟨_, rfl, K⟩
    · have K := K.2 c_4
      refine JW.bipush dX3_restore_29 rfl ?_
      exact JW.ireturn dX3_restore_31 rfl rfl ⟨_, rfl, K⟩
  · have K := K.2 c_2
    refine JW.bipush dX3_restore_17 rfl ?_
    exact JW.ireturn dX3_restore_19 rfl rfl ⟨_, rfl, K⟩
def QX3_restore (s : MS) (a1 : Int) : Option AV → MS → Prop := fun v s' => v = some (vI (if 0 ≤ a1 ∧ a1 ≤ 2 then (if (s.2 10) a1 = 0 then -6 else 0) else -2)) ∧ s' = sS (sA (sA (sA (sA (sA s 5 (if ((0 ≤ a1 ∧ a1 ≤ 2) ∧ (s.2 10) a1 ≠ 0) then cpT 1 (1 + a1) 0 (s.2 5) else (s.2 5))) 6 (if ((0 ≤ a1 ∧ a1 ≤ 2) ∧ (s.2 10) a1 ≠ 0) then cpT 6 (1 + a1) 0 (s.2 6) else (s.2 6))) 7 (if ((0 ≤ a1 ∧ a1 ≤ 2) ∧ (s.2 10) a1 ≠ 0) then cpT 24 (1 + a1) 0 (s.2 7) else (s.2 7))) 8 (if ((0 ≤ a1 ∧ a1 ≤ 2) ∧ (s.2 10) a1 ≠ 0) then cpT 24 (1 + a1) 0 (s.2 8) else (s.2 8))) 9 (if ((0 ≤ a1 ∧ a1 ≤ 2) ∧ (s.2 10) a1 ≠ 0) then cpT 20 (1 + a1) 0 (s.2 9) else (s.2 9))) 0 (0)
theorem vX3_restore_1 (s : MS) (a1 : Int) (c_2 : ¬ (bI ((0 : Int) ≤ a1 ∧ a1 ≤ (2 : Int))) = 0) : (0 ≤ a1 ∧ a1 < 3) := by
  (try simp only [bI_0, bI_n, Classical.not_not] at *)
  (try simp (disch := omega) only [i32_id] at *)
  (try unfold lex3)
  (try simp only [bI_0, bI_n, Classical.not_not] at *)
  (try simp (disch := omega) only [i32_id] at *)
  first | done | omega | ((repeat' (with_reducible apply And.intro)) <;> first | assumption | rfl | omega | (rw [if_pos ⟨by omega, by assumption⟩]) | (rw [if_neg (fun q => absurd q.1 (by assumption))]) | (rw [if_neg (fun q => q.2 (by assumption))]) | (rw [if_neg (by omega)]) | (rw [if_pos (by omega), if_pos (by assumption)]) | (rw [if_pos (by omega), if_neg (by assumption)]) | grind [upI])
theorem vX3_restore_2 (s : MS) (a1 : Int) (c_2 : ¬ (bI ((0 : Int) ≤ a1 ∧ a1 ≤ (2 : Int))) = 0) (o_3 : (0 ≤ a1 ∧ a1 < 3)) (c_4 : ¬ (s.2 10 a1) = 0) : ((0 ≤ (i32 (1 + a1)) ∧ (i32 (1 + a1)) ≤ 4) ∧ (0 ≤ (0 : Int) ∧ (0 : Int) ≤ 4) ∧ (i32 (1 + a1)) ≠ (0 : Int)) := by
  (try simp only [bI_0, bI_n, Classical.not_not] at *)
  (try simp (disch := omega) only [i32_id] at *)
  (try unfold lex3)
  (try simp only [bI_0, bI_n, Classical.not_not] at *)
  (try simp (disch := omega) only [i32_id] at *)
  first | done | omega | ((repeat' (with_reducible apply And.intro)) <;> first | assumption | rfl | omega | (rw [if_pos ⟨by omega, by assumption⟩]) | (rw [if_neg (fun q => absurd q.1 (by assumption))]) | (rw [if_neg (fun q => q.2 (by assumption))]) | (rw [if_neg (by omega)]) | (rw [if_pos (by omega), if_pos (by assumption)]) | (rw [if_pos (by omega), if_neg (by assumption)]) | grind [upI])
theorem vX3_restore_3 (s : MS) (a1 : Int) (c_2 : ¬ (bI ((0 : Int) ≤ a1 ∧ a1 ≤ (2 : Int))) = 0) (o_3 : (0 ≤ a1 ∧ a1 < 3)) (c_4 : ¬ (s.2 10 a1) = 0) (o_5 : ((0 ≤ (i32 (1 + a1)) ∧ (i32 (1 + a1)) ≤ 4) ∧ (0 ≤ (0 : Int) ∧ (0 : Int) ≤ 4) ∧ (i32 (1 + a1)) ≠ (0 : Int))) : (cpT 1 (i32 (1 + a1)) (0 : Int) (s.2 5)) = (if ((0 ≤ a1 ∧ a1 ≤ 2) ∧ (s.2 10) a1 ≠ 0) then cpT 1 (1 + a1) 0 (s.2 5) else (s.2 5)) := by
  (try simp only [bI_0, bI_n, Classical.not_not] at *)
  (try simp (disch := omega) only [i32_id] at *)
  (try unfold lex3)
  (try simp only [bI_0, bI_n, Classical.not_not] at *)
  (try simp (disch := omega) only [i32_id] at *)
  first | done | omega | ((repeat' (with_reducible apply And.intro)) <;> first | assumption | rfl | omega | (rw [if_pos ⟨by omega, by assumption⟩]) | (rw [if_neg (fun q => absurd q.1 (by assumption))]) | (rw [if_neg (fun q => q.2 (by assumption))]) | (rw [if_neg (by omega)]) | (rw [if_pos (by omega), if_pos (by assumption)]) | (rw [if_pos (by omega), if_neg (by assumption)]) | grind [upI])
theorem vX3_restore_4 (s : MS) (a1 : Int) (c_2 : ¬ (bI ((0 : Int) ≤ a1 ∧ a1 ≤ (2 : Int))) = 0) (o_3 : (0 ≤ a1 ∧ a1 < 3)) (c_4 : ¬ (s.2 10 a1) = 0) (o_5 : ((0 ≤ (i32 (1 + a1)) ∧ (i32 (1 + a1)) ≤ 4) ∧ (0 ≤ (0 : Int) ∧ (0 : Int) ≤ 4) ∧ (i32 (1 + a1)) ≠ (0 : Int))) : (cpT 6 (i32 (1 + a1)) (0 : Int) (s.2 6)) = (if ((0 ≤ a1 ∧ a1 ≤ 2) ∧ (s.2 10) a1 ≠ 0) then cpT 6 (1 + a1) 0 (s.2 6) else (s.2 6)) := by
  (try simp only [bI_0, bI_n, Classical.not_not] at *)
  (try simp (disch := omega) only [i32_id] at *)
  (try unfold lex3)
  (try simp only [bI_0, bI_n, Classical.not_not] at *)
  (try simp (disch := omega) only [i32_id] at *)
  first | done | omega | ((repeat' (with_reducible apply And.intro)) <;> first | assumption | rfl | omega | (rw [if_pos ⟨by omega, by assumption⟩]) | (rw [if_neg (fun q => absurd q.1 (by assumption))]) | (rw [if_neg (fun q => q.2 (by assumption))]) | (rw [if_neg (by omega)]) | (rw [if_pos (by omega), if_pos (by assumption)]) | (rw [if_pos (by omega), if_neg (by assumption)]) | grind [upI])
theorem vX3_restore_5 (s : MS) (a1 : Int) (c_2 : ¬ (bI ((0 : Int) ≤ a1 ∧ a1 ≤ (2 : Int))) = 0) (o_3 : (0 ≤ a1 ∧ a1 < 3)) (c_4 : ¬ (s.2 10 a1) = 0) (o_5 : ((0 ≤ (i32 (1 + a1)) ∧ (i32 (1 + a1)) ≤ 4) ∧ (0 ≤ (0 : Int) ∧ (0 : Int) ≤ 4) ∧ (i32 (1 + a1)) ≠ (0 : Int))) : (cpT 24 (i32 (1 + a1)) (0 : Int) (s.2 7)) = (if ((0 ≤ a1 ∧ a1 ≤ 2) ∧ (s.2 10) a1 ≠ 0) then cpT 24 (1 + a1) 0 (s.2 7) else (s.2 7)) := by
  (try simp only [bI_0, bI_n, Classical.not_not] at *)
  (try simp (disch := omega) only [i32_id] at *)
  (try unfold lex3)
  (try simp only [bI_0, bI_n, Classical.not_not] at *)
  (try simp (disch := omega) only [i32_id] at *)
  first | done | omega | ((repeat' (with_reducible apply And.intro)) <;> first | assumption | rfl | omega | (rw [if_pos ⟨by omega, by assumption⟩]) | (rw [if_neg (fun q => absurd q.1 (by assumption))]) | (rw [if_neg (fun q => q.2 (by assumption))]) | (rw [if_neg (by omega)]) | (rw [if_pos (by omega), if_pos (by assumption)]) | (rw [if_pos (by omega), if_neg (by assumption)]) | grind [upI])
theorem vX3_restore_6 (s : MS) (a1 : Int) (c_2 : ¬ (bI ((0 : Int) ≤ a1 ∧ a1 ≤ (2 : Int))) = 0) (o_3 : (0 ≤ a1 ∧ a1 < 3)) (c_4 : ¬ (s.2 10 a1) = 0) (o_5 : ((0 ≤ (i32 (1 + a1)) ∧ (i32 (1 + a1)) ≤ 4) ∧ (0 ≤ (0 : Int) ∧ (0 : Int) ≤ 4) ∧ (i32 (1 + a1)) ≠ (0 : Int))) : (cpT 24 (i32 (1 + a1)) (0 : Int) (s.2 8)) = (if ((0 ≤ a1 ∧ a1 ≤ 2) ∧ (s.2 10) a1 ≠ 0) then cpT 24 (1 + a1) 0 (s.2 8) else (s.2 8)) := by
  (try simp only [bI_0, bI_n, Classical.not_not] at *)
  (try simp (disch := omega) only [i32_id] at *)
  (try unfold lex3)
  (try simp only [bI_0, bI_n, Classical.not_not] at *)
  (try simp (disch := omega) only [i32_id] at *)
  first | done | omega | ((repeat' (with_reducible apply And.intro)) <;> first | assumption | rfl | omega | (rw [if_pos ⟨by omega, by assumption⟩]) | (rw [if_neg (fun q => absurd q.1 (by assumption))]) | (rw [if_neg (fun q => q.2 (by assumption))]) | (rw [if_neg (by omega)]) | (rw [if_pos (by omega), if_pos (by assumption)]) | (rw [if_pos (by omega), if_neg (by assumption)]) | grind [upI])
theorem vX3_restore_7 (s : MS) (a1 : Int) (c_2 : ¬ (bI ((0 : Int) ≤ a1 ∧ a1 ≤ (2 : Int))) = 0) (o_3 : (0 ≤ a1 ∧ a1 < 3)) (c_4 : ¬ (s.2 10 a1) = 0) (o_5 : ((0 ≤ (i32 (1 + a1)) ∧ (i32 (1 + a1)) ≤ 4) ∧ (0 ≤ (0 : Int) ∧ (0 : Int) ≤ 4) ∧ (i32 (1 + a1)) ≠ (0 : Int))) : (cpT 20 (i32 (1 + a1)) (0 : Int) (s.2 9)) = (if ((0 ≤ a1 ∧ a1 ≤ 2) ∧ (s.2 10) a1 ≠ 0) then cpT 20 (1 + a1) 0 (s.2 9) else (s.2 9)) := by
  (try simp only [bI_0, bI_n, Classical.not_not] at *)
  (try simp (disch := omega) only [i32_id] at *)
  (try unfold lex3)
  (try simp only [bI_0, bI_n, Classical.not_not] at *)
  (try simp (disch := omega) only [i32_id] at *)
  first | done | omega | ((repeat' (with_reducible apply And.intro)) <;> first | assumption | rfl | omega | (rw [if_pos ⟨by omega, by assumption⟩]) | (rw [if_neg (fun q => absurd q.1 (by assumption))]) | (rw [if_neg (fun q => q.2 (by assumption))]) | (rw [if_neg (by omega)]) | (rw [if_pos (by omega), if_pos (by assumption)]) | (rw [if_pos (by omega), if_neg (by assumption)]) | grind [upI])
theorem vX3_restore_8 (s : MS) (a1 : Int) (c_2 : ¬ (bI ((0 : Int) ≤ a1 ∧ a1 ≤ (2 : Int))) = 0) (o_3 : (0 ≤ a1 ∧ a1 < 3)) (c_4 : ¬ (s.2 10 a1) = 0) (o_5 : ((0 ≤ (i32 (1 + a1)) ∧ (i32 (1 + a1)) ≤ 4) ∧ (0 ≤ (0 : Int) ∧ (0 : Int) ≤ 4) ∧ (i32 (1 + a1)) ≠ (0 : Int))) : 0 = (if 0 ≤ a1 ∧ a1 ≤ 2 then (if (s.2 10) a1 = 0 then -6 else 0) else -2) := by
  (try simp only [bI_0, bI_n, Classical.not_not] at *)
  (try simp (disch := omega) only [i32_id] at *)
  (try unfold lex3)
  (try simp only [bI_0, bI_n, Classical.not_not] at *)
  (try simp (disch := omega) only [i32_id] at *)
  first | done | omega | ((repeat' (with_reducible apply And.intro)) <;> first | assumption | rfl | omega | (rw [if_pos ⟨by omega, by assumption⟩]) | (rw [if_neg (fun q => absurd q.1 (by assumption))]) | (rw [if_neg (fun q => q.2 (by assumption))]) | (rw [if_neg (by omega)]) | (rw [if_pos (by omega), if_pos (by assumption)]) | (rw [if_pos (by omega), if_neg (by assumption)]) | grind [upI])
theorem vX3_restore_9 (s : MS) (a1 : Int) (c_2 : ¬ (bI ((0 : Int) ≤ a1 ∧ a1 ≤ (2 : Int))) = 0) (o_3 : (0 ≤ a1 ∧ a1 < 3)) (c_4 : (s.2 10 a1) = 0) : (s.2 5) = (if ((0 ≤ a1 ∧ a1 ≤ 2) ∧ (s.2 10) a1 ≠ 0) then cpT 1 (1 + a1) 0 (s.2 5) else (s.2 5)) := by
  (try simp only [bI_0, bI_n, Classical.not_not] at *)
  (try simp (disch := omega) only [i32_id] at *)
  (try unfold lex3)
  (try simp only [bI_0, bI_n, Classical.not_not] at *)
  (try simp (disch := omega) only [i32_id] at *)
  first | done | omega | ((repeat' (with_reducible apply And.intro)) <;> first | assumption | rfl | omega | (rw [if_pos ⟨by omega, by assumption⟩]) | (rw [if_neg (fun q => absurd q.1 (by assumption))]) | (rw [if_neg (fun q => q.2 (by assumption))]) | (rw [if_neg (by omega)]) | (rw [if_pos (by omega), if_pos (by assumption)]) | (rw [if_pos (by omega), if_neg (by assumption)]) | grind [upI])
theorem vX3_restore_10 (s : MS) (a1 : Int) (c_2 : ¬ (bI ((0 : Int) ≤ a1 ∧ a1 ≤ (2 : Int))) = 0) (o_3 : (0 ≤ a1 ∧ a1 < 3)) (c_4 : (s.2 10 a1) = 0) : (s.2 6) = (if ((0 ≤ a1 ∧ a1 ≤ 2) ∧ (s.2 10) a1 ≠ 0) then cpT 6 (1 + a1) 0 (s.2 6) else (s.2 6)) := by
  (try simp only [bI_0, bI_n, Classical.not_not] at *)
  (try simp (disch := omega) only [i32_id] at *)
  (try unfold lex3)
  (try simp only [bI_0, bI_n, Classical.not_not] at *)
  (try simp (disch := omega) only [i32_id] at *)
  first | done | omega | ((repeat' (with_reducible apply And.intro)) <;> first | assumption | rfl | omega | (rw [if_pos ⟨by omega, by assumption⟩]) | (rw [if_neg (fun q => absurd q.1 (by assumption))]) | (rw [if_neg (fun q => q.2 (by assumption))]) | (rw [if_neg (by omega)]) | (rw [if_pos (by omega), if_pos (by assumption)]) | (rw [if_pos (by omega), if_neg (by assumption)]) | grind [upI])
theorem vX3_restore_11 (s : MS) (a1 : Int) (c_2 : ¬ (bI ((0 : Int) ≤ a1 ∧ a1 ≤ (2 : Int))) = 0) (o_3 : (0 ≤ a1 ∧ a1 < 3)) (c_4 : (s.2 10 a1) = 0) : (s.2 7) = (if ((0 ≤ a1 ∧ a1 ≤ 2) ∧ (s.2 10) a1 ≠ 0) then cpT 24 (1 + a1) 0 (s.2 7) else (s.2 7)) := by
  (try simp only [bI_0, bI_n, Classical.not_not] at *)
  (try simp (disch := omega) only [i32_id] at *)
  (try unfold lex3)
  (try simp only [bI_0, bI_n, Classical.not_not] at *)
  (try simp (disch := omega) only [i32_id] at *)
  first | done | omega | ((repeat' (with_reducible apply And.intro)) <;> first | assumption | rfl | omega | (rw [if_pos ⟨by omega, by assumption⟩]) | (rw [if_neg (fun q => absurd q.1 (by assumption))]) | (rw [if_neg (fun q => q.2 (by assumption))]) | (rw [if_neg (by omega)]) | (rw [if_pos (by omega), if_pos (by assumption)]) | (rw [if_pos (by omega), if_neg (by assumption)]) | grind [upI])
theorem vX3_restore_12 (s : MS) (a1 : Int) (c_2 : ¬ (bI ((0 : Int) ≤ a1 ∧ a1 ≤ (2 : Int))) = 0) (o_3 : (0 ≤ a1 ∧ a1 < 3)) (c_4 : (s.2 10 a1) = 0) : (s.2 8) = (if ((0 ≤ a1 ∧ a1 ≤ 2) ∧ (s.2 10) a1 ≠ 0) then cpT 24 (1 + a1) 0 (s.2 8) else (s.2 8)) := by
  (try simp only [bI_0, bI_n, Classical.not_not] at *)
  (try simp (disch := omega) only [i32_id] at *)
  (try unfold lex3)
  (try simp only [bI_0, bI_n, Classical.not_not] at *)
  (try simp (disch := omega) only [i32_id] at *)
  first | done | omega | ((repeat' (with_reducible apply And.intro)) <;> first | assumption | rfl | omega | (rw [if_pos ⟨by omega, by assumption⟩]) | (rw [if_neg (fun q => absurd q.1 (by assumption))]) | (rw [if_neg (fun q => q.2 (by assumption))]) | (rw [if_neg (by omega)]) | (rw [if_pos (by omega), if_pos (by assumption)]) | (rw [if_pos (by omega), if_neg (by assumption)]) | grind [upI])
theorem vX3_restore_13 (s : MS) (a1 : Int) (c_2 : ¬ (bI ((0 : Int) ≤ a1 ∧ a1 ≤ (2 : Int))) = 0) (o_3 : (0 ≤ a1 ∧ a1 < 3)) (c_4 : (s.2 10 a1) = 0) : (s.2 9) = (if ((0 ≤ a1 ∧ a1 ≤ 2) ∧ (s.2 10) a1 ≠ 0) then cpT 20 (1 + a1) 0 (s.2 9) else (s.2 9)) := by
  (try simp only [bI_0, bI_n, Classical.not_not] at *)
  (try simp (disch := omega) only [i32_id] at *)
  (try unfold lex3)
  (try simp only [bI_0, bI_n, Classical.not_not] at *)
  (try simp (disch := omega) only [i32_id] at *)
  first | done | omega | ((repeat' (with_reducible apply And.intro)) <;> first | assumption | rfl | omega | (rw [if_pos ⟨by omega, by assumption⟩]) | (rw [if_neg (fun q => absurd q.1 (by assumption))]) | (rw [if_neg (fun q => q.2 (by assumption))]) | (rw [if_neg (by omega)]) | (rw [if_pos (by omega), if_pos (by assumption)]) | (rw [if_pos (by omega), if_neg (by assumption)]) | grind [upI])
theorem vX3_restore_14 (s : MS) (a1 : Int) (c_2 : ¬ (bI ((0 : Int) ≤ a1 ∧ a1 ≤ (2 : Int))) = 0) (o_3 : (0 ≤ a1 ∧ a1 < 3)) (c_4 : (s.2 10 a1) = 0) : (-6) = (if 0 ≤ a1 ∧ a1 ≤ 2 then (if (s.2 10) a1 = 0 then -6 else 0) else -2) := by
  (try simp only [bI_0, bI_n, Classical.not_not] at *)
  (try simp (disch := omega) only [i32_id] at *)
  (try unfold lex3)
  (try simp only [bI_0, bI_n, Classical.not_not] at *)
  (try simp (disch := omega) only [i32_id] at *)
  first | done | omega | ((repeat' (with_reducible apply And.intro)) <;> first | assumption | rfl | omega | (rw [if_pos ⟨by omega, by assumption⟩]) | (rw [if_neg (fun q => absurd q.1 (by assumption))]) | (rw [if_neg (fun q => q.2 (by assumption))]) | (rw [if_neg (by omega)]) | (rw [if_pos (by omega), if_pos (by assumption)]) | (rw [if_pos (by omega), if_neg (by assumption)]) | grind [upI])
theorem vX3_restore_15 (s : MS) (a1 : Int) (c_2 : (bI ((0 : Int) ≤ a1 ∧ a1 ≤ (2 : Int))) = 0) : (s.2 5) = (if ((0 ≤ a1 ∧ a1 ≤ 2) ∧ (s.2 10) a1 ≠ 0) then cpT 1 (1 + a1) 0 (s.2 5) else (s.2 5)) := by
  (try simp only [bI_0, bI_n, Classical.not_not] at *)
  (try simp (disch := omega) only [i32_id] at *)
  (try unfold lex3)
  (try simp only [bI_0, bI_n, Classical.not_not] at *)
  (try simp (disch := omega) only [i32_id] at *)
  first | done | omega | ((repeat' (with_reducible apply And.intro)) <;> first | assumption | rfl | omega | (rw [if_pos ⟨by omega, by assumption⟩]) | (rw [if_neg (fun q => absurd q.1 (by assumption))]) | (rw [if_neg (fun q => q.2 (by assumption))]) | (rw [if_neg (by omega)]) | (rw [if_pos (by omega), if_pos (by assumption)]) | (rw [if_pos (by omega), if_neg (by assumption)]) | grind [upI])
theorem vX3_restore_16 (s : MS) (a1 : Int) (c_2 : (bI ((0 : Int) ≤ a1 ∧ a1 ≤ (2 : Int))) = 0) : (s.2 6) = (if ((0 ≤ a1 ∧ a1 ≤ 2) ∧ (s.2 10) a1 ≠ 0) then cpT 6 (1 + a1) 0 (s.2 6) else (s.2 6)) := by
  (try simp only [bI_0, bI_n, Classical.not_not] at *)
  (try simp (disch := omega) only [i32_id] at *)
  (try unfold lex3)
  (try simp only [bI_0, bI_n, Classical.not_not] at *)
  (try simp (disch := omega) only [i32_id] at *)
  first | done | omega | ((repeat' (with_reducible apply And.intro)) <;> first | assumption | rfl | omega | (rw [if_pos ⟨by omega, by assumption⟩]) | (rw [if_neg (fun q => absurd q.1 (by assumption))]) | (rw [if_neg (fun q => q.2 (by assumption))]) | (rw [if_neg (by omega)]) | (rw [if_pos (by omega), if_pos (by assumption)]) | (rw [if_pos (by omega), if_neg (by assumption)]) | grind [upI])
theorem vX3_restore_17 (s : MS) (a1 : Int) (c_2 : (bI ((0 : Int) ≤ a1 ∧ a1 ≤ (2 : Int))) = 0) : (s.2 7) = (if ((0 ≤ a1 ∧ a1 ≤ 2) ∧ (s.2 10) a1 ≠ 0) then cpT 24 (1 + a1) 0 (s.2 7) else (s.2 7)) := by
  (try simp only [bI_0, bI_n, Classical.not_not] at *)
  (try simp (disch := omega) only [i32_id] at *)
  (try unfold lex3)
  (try simp only [bI_0, bI_n, Classical.not_not] at *)
  (try simp (disch := omega) only [i32_id] at *)
  first | done | omega | ((repeat' (with_reducible apply And.intro)) <;> first | assumption | rfl | omega | (rw [if_pos ⟨by omega, by assumption⟩]) | (rw [if_neg (fun q => absurd q.1 (by assumption))]) | (rw [if_neg (fun q => q.2 (by assumption))]) | (rw [if_neg (by omega)]) | (rw [if_pos (by omega), if_pos (by assumption)]) | (rw [if_pos (by omega), if_neg (by assumption)]) | grind [upI])
theorem vX3_restore_18 (s : MS) (a1 : Int) (c_2 : (bI ((0 : Int) ≤ a1 ∧ a1 ≤ (2 : Int))) = 0) : (s.2 8) = (if ((0 ≤ a1 ∧ a1 ≤ 2) ∧ (s.2 10) a1 ≠ 0) then cpT 24 (1 + a1) 0 (s.2 8) else (s.2 8)) := by
  (try simp only [bI_0, bI_n, Classical.not_not] at *)
  (try simp (disch := omega) only [i32_id] at *)
  (try unfold lex3)
  (try simp only [bI_0, bI_n, Classical.not_not] at *)
  (try simp (disch := omega) only [i32_id] at *)
  first | done | omega | ((repeat' (with_reducible apply And.intro)) <;> first | assumption | rfl | omega | (rw [if_pos ⟨by omega, by assumption⟩]) | (rw [if_neg (fun q => absurd q.1 (by assumption))]) | (rw [if_neg (fun q => q.2 (by assumption))]) | (rw [if_neg (by omega)]) | (rw [if_pos (by omega), if_pos (by assumption)]) | (rw [if_pos (by omega), if_neg (by assumption)]) | grind [upI])
theorem vX3_restore_19 (s : MS) (a1 : Int) (c_2 : (bI ((0 : Int) ≤ a1 ∧ a1 ≤ (2 : Int))) = 0) : (s.2 9) = (if ((0 ≤ a1 ∧ a1 ≤ 2) ∧ (s.2 10) a1 ≠ 0) then cpT 20 (1 + a1) 0 (s.2 9) else (s.2 9)) := by
  (try simp only [bI_0, bI_n, Classical.not_not] at *)
  (try simp (disch := omega) only [i32_id] at *)
  (try unfold lex3)
  (try simp only [bI_0, bI_n, Classical.not_not] at *)
  (try simp (disch := omega) only [i32_id] at *)
  first | done | omega | ((repeat' (with_reducible apply And.intro)) <;> first | assumption | rfl | omega | (rw [if_pos ⟨by omega, by assumption⟩]) | (rw [if_neg (fun q => absurd q.1 (by assumption))]) | (rw [if_neg (fun q => q.2 (by assumption))]) | (rw [if_neg (by omega)]) | (rw [if_pos (by omega), if_pos (by assumption)]) | (rw [if_pos (by omega), if_neg (by assumption)]) | grind [upI])
theorem vX3_restore_20 (s : MS) (a1 : Int) (c_2 : (bI ((0 : Int) ≤ a1 ∧ a1 ≤ (2 : Int))) = 0) : (-2) = (if 0 ≤ a1 ∧ a1 ≤ 2 then (if (s.2 10) a1 = 0 then -6 else 0) else -2) := by
  (try simp only [bI_0, bI_n, Classical.not_not] at *)
  (try simp (disch := omega) only [i32_id] at *)
  (try unfold lex3)
  (try simp only [bI_0, bI_n, Classical.not_not] at *)
  (try simp (disch := omega) only [i32_id] at *)
  first | done | omega | ((repeat' (with_reducible apply And.intro)) <;> first | assumption | rfl | omega | (rw [if_pos ⟨by omega, by assumption⟩]) | (rw [if_neg (fun q => absurd q.1 (by assumption))]) | (rw [if_neg (fun q => q.2 (by assumption))]) | (rw [if_neg (by omega)]) | (rw [if_pos (by omega), if_pos (by assumption)]) | (rw [if_pos (by omega), if_neg (by assumption)]) | grind [upI])
theorem ctX3_restore (b : AH) (s : MS) (a1 : Int) : MC mX3_restore 3 b s [vI a1] (QX3_restore s a1) := by
  refine MC.of (by decide) rfl (Nat.le_of_ble_eq_true rfl) (JW.steq (s2 := sS (sA (sA (sA (sA (sA s 5 (s.2 5)) 6 (s.2 6)) 7 (s.2 7)) 8 (s.2 8)) 9 (s.2 9)) 0 (s.1 0)) (by simp only [sA_id, sS_id]) ?_)
  refine bX3_restore_0 b s a1 (s.2 5) (s.2 6) (s.2 7) (s.2 8) (s.2 9) (s.1 0) ?_
  refine ⟨fun c_2 => ?_, fun c_2 => ?_⟩
  · have o_3 : (0 ≤ a1 ∧ a1 < 3) := (vX3_restore_1 s a1 c_2)
    refine ⟨o_3, ?_⟩
    refine ⟨fun c_4 => ?_, fun c_4 => ?_⟩
    · have o_5 : ((0 ≤ (i32 (1 + a1)) ∧ (i32 (1 + a1)) ≤ 4) ∧ (0 ≤ (0 : Int) ∧ (0 : Int) ≤ 4) ∧ (i32 (1 + a1)) ≠ (0 : Int)) := (vX3_restore_2 s a1 c_2 o_3 c_4)
      refine ⟨o_5, ?_⟩
      exact ⟨(rI_c (vX3_restore_8 s a1 c_2 o_3 c_4 o_5)), (sS_c (sA_c (sA_c (sA_c (sA_c (sA_c rfl (vX3_restore_3 s a1 c_2 o_3 c_4 o_5)) (vX3_restore_4 s a1 c_2 o_3 c_4 o_5)) (vX3_restore_5 s a1 c_2 o_3 c_4 o_5)) (vX3_restore_6 s a1 c_2 o_3 c_4 o_5)) (vX3_restore_7 s a1 c_2 o_3 c_4 o_5)) rfl)⟩
    · exact ⟨(rI_c (vX3_restore_14 s a1 c_2 o_3 c_4)), (sS_c (sA_c (sA_c (sA_c (sA_c (sA_c rfl (vX3_restore_9 s a1 c_2 o_3 c_4)) (vX3_restore_10 s a1 c_2 o_3 c_4)) (vX3_restore_11 s a1 c_2 o_3 c_4)) (vX3_restore_12 s a1 c_2 o_3 c_4)) (vX3_restore_13 s a1 c_2 o_3 c_4)) rfl)⟩
  · exact ⟨(rI_c (vX3_restore_20 s a1 c_2)), (sS_c (sA_c (sA_c (sA_c (sA_c (sA_c rfl (vX3_restore_15 s a1 c_2)) (vX3_restore_16 s a1 c_2)) (vX3_restore_17 s a1 c_2)) (vX3_restore_18 s a1 c_2)) (vX3_restore_19 s a1 c_2)) rfl)⟩
