/-! contracts of the reference: word told fault count four feed end turn -/
set_option maxRecDepth 100000
def HX3_word_0 (Q : Option AV → MS → Prop) (b : AH) (s : MS) (x1 : Int) (x2 : Int) (k0 : Int) : Prop := MW mX3_word 3 Q b 0 [(0, vR 351), (1, vI x1), (2, vI x2)] [] (sS s 0 k0)
theorem bX3_word_0 {Q : Option AV → MS → Prop} (b : AH) (s : MS) (x1 : Int) (x2 : Int) (k0 : Int) (K : (tOK (s.2 6)) ∧ (((bI (0 ≤ x1 ∧ x1 < (s.2 6) 3)) = 0 → Q (some (vI (-2))) (sS s 0 0)) ∧ (¬ (bI (0 ≤ x1 ∧ x1 < (s.2 6) 3)) = 0 → ((bI ((0 : Int) ≤ x2 ∧ x2 ≤ (1 : Int))) = 0 → Q (some (vI (-2))) (sS s 0 0)) ∧ (¬ (bI ((0 : Int) ≤ x2 ∧ x2 ≤ (1 : Int))) = 0 → (0 ≤ (i32 ((i32 (2 * x1)) + x2)) ∧ (i32 ((i32 (2 * x1)) + x2)) < 120) ∧ (Q (some (vI (s.2 7 (i32 ((i32 (2 * x1)) + x2))))) (sS s 0 0)))))) : HX3_word_0 Q b s x1 x2 k0 := by
  refine JW.aload_n dX3_word_0 rfl ?_
  refine JW.iconst dX3_word_1 rfl ?_
  refine JW.mputI dX3_word_2 (pX3_77 _) rfl ?_
  refine JW.steq (s2 := sS s 0 0) (by simp only [sA_A, sS_S, sA_S, sA_lt, sS_lt, Nat.reduceLT, id_eq] <;> rfl) ?_
  refine JW.aload_n dX3_word_5 rfl ?_
  refine JW.iload_n dX3_word_6 rfl ?_
  obtain ⟨o_1, K⟩ := K
  refine JW.mcall (As := [vI x1]) dX3_word_7 vX3_isWord rfl q1784 (ctX3_isWord b (sS s 0 0) x1 o_1) (Nat.le_of_ble_eq_true rfl) rfl (Nat.le_of_ble_eq_true rfl) ?_
  rintro _ _ ⟨rfl, eq_2⟩
  refine JW.steq (s2 := sS s 0 0) eq_2 ?_
  refine JW.if_eq (tgt := 36) dX3_word_10 rfl (fun c_3 => ?_) (fun c_3 => ?_)
  · have K := K.1 c_3
    refine JW.bipush dX3_word_36 rfl ?_
    exact JW.ireturn dX3_word_38 rfl rfl ⟨_, rfl, K⟩
  · have K := K.2 c_3
    refine JW.iload_n dX3_word_13 rfl ?_
    refine JW.i2l dX3_word_14 ?_
    refine JW.lconst (x := 0) dX3_word_15 rfl ?_
    refine JW.lconst (x := 1) dX3_word_16 rfl ?_
    refine JW.mcallS (As := [vL x2, vL 0, vL 1]) dX3_word_17 vX3_in q1632 (ctX3_in b (sS s 0 0) x2 0 1) (Nat.le_of_ble_eq_true rfl) rfl (Nat.le_of_ble_eq_true rfl) ?_
    rintro _ _ ⟨rfl, eq_4⟩
    refine JW.steq (s2 := sS s 0 0) eq_4 ?_
    refine JW.if_eq (tgt := 36) dX3_word_20 rfl (fun c_5 => ?_) (fun c_5 => ?_)
    · have K := K.1 c_5
      refine JW.bipush dX3_word_36 rfl ?_
      exact JW.ireturn dX3_word_38 rfl rfl ⟨_, rfl, K⟩
    · have K := K.2 c_5
      refine JW.aload_n dX3_word_23 rfl ?_
      refine JW.mget (v := vR 359) dX3_word_24 fX3_37 rfl ?_
      refine JW.iconst dX3_word_27 rfl ?_
      refine JW.iload_n dX3_word_28 rfl ?_
      refine JW.imul dX3_word_29 ?_
      refine JW.iload_n dX3_word_30 rfl ?_
      refine JW.iadd dX3_word_31 ?_
      obtain ⟨o_6, K⟩ := K
      refine JW.mald 7 (x := (s.2 7 (i32 ((i32 (2 * x1)) + x2)))) dX3_word_32 (Nat.le_of_ble_eq_true rfl) rfl o_6.1 o_6.2 rfl ?_
      refine JW.goto (tgt := 38) dX3_word_33 rfl ?_
      exact JW.ireturn dX3_word_38 rfl rfl ⟨_, rfl, K⟩
def QX3_word (s : MS) (a1 : Int) (a2 : Int) : Option AV → MS → Prop := fun v s' => v = some (vI (rWord (s.2 6) (s.2 7) a1 a2)) ∧ s' = sS s 0 (0)
theorem vX3_word_1 (s : MS) (a1 : Int) (a2 : Int) (hp : tOK (s.2 6)) : (tOK (s.2 6)) := by
  have hW := tOK_W hp
  (try simp only [bI_0, bI_n, Classical.not_not] at *)
  (try unfold lex3)
  (try simp only [bI_0, bI_n, Classical.not_not] at *)
  (try simp (disch := omega) only [i32_id] at *)
  first | done | omega | ((repeat' (with_reducible apply And.intro)) <;> first | assumption | rfl | omega | (unfold rWord; rw [if_neg (by omega)]) | (unfold rWord; rw [if_pos (by omega)]) | grind [upI])
theorem vX3_word_2 (s : MS) (a1 : Int) (a2 : Int) (hp : tOK (s.2 6)) (o_1 : (tOK (s.2 6))) (c_3 : (bI (0 ≤ a1 ∧ a1 < (s.2 6) 3)) = 0) : (-2) = (rWord (s.2 6) (s.2 7) a1 a2) := by
  have hW := tOK_W hp
  (try simp only [bI_0, bI_n, Classical.not_not] at *)
  (try unfold lex3)
  (try simp only [bI_0, bI_n, Classical.not_not] at *)
  (try simp (disch := omega) only [i32_id] at *)
  first | done | omega | ((repeat' (with_reducible apply And.intro)) <;> first | assumption | rfl | omega | (unfold rWord; rw [if_neg (by omega)]) | (unfold rWord; rw [if_pos (by omega)]) | grind [upI])
theorem vX3_word_3 (s : MS) (a1 : Int) (a2 : Int) (hp : tOK (s.2 6)) (o_1 : (tOK (s.2 6))) (c_3 : ¬ (bI (0 ≤ a1 ∧ a1 < (s.2 6) 3)) = 0) (c_5 : (bI ((0 : Int) ≤ a2 ∧ a2 ≤ (1 : Int))) = 0) : (-2) = (rWord (s.2 6) (s.2 7) a1 a2) := by
  have hW := tOK_W hp
  (try simp only [bI_0, bI_n, Classical.not_not] at *)
  (try unfold lex3)
  (try simp only [bI_0, bI_n, Classical.not_not] at *)
  (try simp (disch := omega) only [i32_id] at *)
  first | done | omega | ((repeat' (with_reducible apply And.intro)) <;> first | assumption | rfl | omega | (unfold rWord; rw [if_neg (by omega)]) | (unfold rWord; rw [if_pos (by omega)]) | grind [upI])
theorem vX3_word_4 (s : MS) (a1 : Int) (a2 : Int) (hp : tOK (s.2 6)) (o_1 : (tOK (s.2 6))) (c_3 : ¬ (bI (0 ≤ a1 ∧ a1 < (s.2 6) 3)) = 0) (c_5 : ¬ (bI ((0 : Int) ≤ a2 ∧ a2 ≤ (1 : Int))) = 0) : (0 ≤ (i32 ((i32 (2 * a1)) + a2)) ∧ (i32 ((i32 (2 * a1)) + a2)) < 120) := by
  have hW := tOK_W hp
  (try simp only [bI_0, bI_n, Classical.not_not] at *)
  (try unfold lex3)
  (try simp only [bI_0, bI_n, Classical.not_not] at *)
  (try simp (disch := omega) only [i32_id] at *)
  first | done | omega | ((repeat' (with_reducible apply And.intro)) <;> first | assumption | rfl | omega | (unfold rWord; rw [if_neg (by omega)]) | (unfold rWord; rw [if_pos (by omega)]) | grind [upI])
theorem vX3_word_5 (s : MS) (a1 : Int) (a2 : Int) (hp : tOK (s.2 6)) (o_1 : (tOK (s.2 6))) (c_3 : ¬ (bI (0 ≤ a1 ∧ a1 < (s.2 6) 3)) = 0) (c_5 : ¬ (bI ((0 : Int) ≤ a2 ∧ a2 ≤ (1 : Int))) = 0) (o_6 : (0 ≤ (i32 ((i32 (2 * a1)) + a2)) ∧ (i32 ((i32 (2 * a1)) + a2)) < 120)) : (s.2 7 (i32 ((i32 (2 * a1)) + a2))) = (rWord (s.2 6) (s.2 7) a1 a2) := by
  have hW := tOK_W hp
  (try simp only [bI_0, bI_n, Classical.not_not] at *)
  (try unfold lex3)
  (try simp only [bI_0, bI_n, Classical.not_not] at *)
  (try simp (disch := omega) only [i32_id] at *)
  first | done | omega | ((repeat' (with_reducible apply And.intro)) <;> first | assumption | rfl | omega | (unfold rWord; rw [if_neg (by omega)]) | (unfold rWord; rw [if_pos (by omega)]) | grind [upI])
theorem ctX3_word (b : AH) (s : MS) (a1 : Int) (a2 : Int) (hp : tOK (s.2 6)) : MC mX3_word 3 b s [vI a1, vI a2] (QX3_word s a1 a2) := by
  refine MC.of (by decide) rfl (Nat.le_of_ble_eq_true rfl) (JW.steq (s2 := sS s 0 (s.1 0)) (by simp only [sA_id, sS_id]) ?_)
  refine bX3_word_0 b s a1 a2 (s.1 0) ?_
  have o_1 : (tOK (s.2 6)) := (vX3_word_1 s a1 a2 hp)
  refine ⟨o_1, ?_⟩
  refine ⟨fun c_3 => ?_, fun c_3 => ?_⟩
  · exact ⟨(rI_c (vX3_word_2 s a1 a2 hp o_1 c_3)), rfl⟩
  · refine ⟨fun c_5 => ?_, fun c_5 => ?_⟩
    · exact ⟨(rI_c (vX3_word_3 s a1 a2 hp o_1 c_3 c_5)), rfl⟩
    · have o_6 : (0 ≤ (i32 ((i32 (2 * a1)) + a2)) ∧ (i32 ((i32 (2 * a1)) + a2)) < 120) := (vX3_word_4 s a1 a2 hp o_1 c_3 c_5)
      refine ⟨o_6, ?_⟩
      exact ⟨(rI_c (vX3_word_5 s a1 a2 hp o_1 c_3 c_5 o_6)), rfl⟩
def HX3_told_0 (Q : Option AV → MS → Prop) (b : AH) (s : MS) (x1 : Int) (k0 : Int) : Prop := MW mX3_told 3 Q b 0 [(0, vR 351), (1, vI x1)] [] (sS s 0 k0)
theorem bX3_told_0 {Q : Option AV → MS → Prop} (b : AH) (s : MS) (x1 : Int) (k0 : Int) (K : ((bI ((0 : Int) ≤ x1 ∧ x1 ≤ (i32 ((s.2 6 5) - 1)))) = 0 → Q (some (vI (-1))) (sS s 0 0)) ∧ (¬ (bI ((0 : Int) ≤ x1 ∧ x1 ≤ (i32 ((s.2 6 5) - 1)))) = 0 → (0 ≤ x1 ∧ x1 < 100) ∧ (Q (some (vI (s.2 9 x1))) (sS s 0 0)))) : HX3_told_0 Q b s x1 k0 := by
  refine JW.aload_n dX3_told_0 rfl ?_
  refine JW.iconst dX3_told_1 rfl ?_
  refine JW.mputI dX3_told_2 (pX3_77 _) rfl ?_
  refine JW.steq (s2 := sS s 0 0) (by simp only [sA_A, sS_S, sA_S, sA_lt, sS_lt, Nat.reduceLT, id_eq] <;> rfl) ?_
  refine JW.iload_n dX3_told_5 rfl ?_
  refine JW.i2l dX3_told_6 ?_
  refine JW.lconst (x := 0) dX3_told_7 rfl ?_
  refine JW.aload_n dX3_told_8 rfl ?_
  refine JW.mget (v := vR 358) dX3_told_9 fX3_34 rfl ?_
  refine JW.iconst dX3_told_12 rfl ?_
  refine JW.mald 6 (x := (s.2 6 5)) dX3_told_13 (Nat.le_of_ble_eq_true rfl) rfl (by decide) (by decide) rfl ?_
  refine JW.iconst dX3_told_14 rfl ?_
  refine JW.isub dX3_told_15 ?_
  refine JW.i2l dX3_told_16 ?_
  refine JW.mcallS (As := [vL x1, vL 0, vL (i32 ((s.2 6 5) - 1))]) dX3_told_17 vX3_in q1632 (ctX3_in b (sS s 0 0) x1 0 (i32 ((s.2 6 5) - 1))) (Nat.le_of_ble_eq_true rfl) rfl (Nat.le_of_ble_eq_true rfl) ?_
  rintro _ _ ⟨rfl, eq_1⟩
  refine JW.steq (s2 := sS s 0 0) eq_1 ?_
  refine JW.if_eq (tgt := 32) dX3_told_20 rfl (fun c_2 => ?_) (fun c_2 => ?_)
  · have K := K.1 c_2
    refine JW.iconst dX3_told_32 rfl ?_
    exact JW.ireturn dX3_told_33 rfl rfl ⟨_, rfl, K⟩
  · have K := K.2 c_2
    refine JW.aload_n dX3_told_23 rfl ?_
    refine JW.mget (v := vR 361) dX3_told_24 fX3_43 rfl ?_
    refine JW.iload_n dX3_told_27 rfl ?_
    obtain ⟨o_3, K⟩ := K
    refine JW.mald 9 (x := (s.2 9 x1)) dX3_told_28 (Nat.le_of_ble_eq_true rfl) rfl o_3.1 o_3.2 rfl ?_
    refine JW.goto (tgt := 33) dX3_told_29 rfl ?_
    exact JW.ireturn dX3_told_33 rfl rfl ⟨_, rfl, K⟩
def QX3_told (s : MS) (a1 : Int) : Option AV → MS → Prop := fun v s' => v = some (vI (rTold (s.2 6) (s.2 9) a1)) ∧ s' = sS s 0 (0)
theorem vX3_told_1 (s : MS) (a1 : Int) (hp : tOK (s.2 6)) (c_2 : (bI ((0 : Int) ≤ a1 ∧ a1 ≤ (i32 ((s.2 6 5) - 1)))) = 0) : (-1) = (rTold (s.2 6) (s.2 9) a1) := by
  have hT := tOK_T hp
  (try simp only [bI_0, bI_n, Classical.not_not] at *)
  (try unfold lex3)
  (try simp only [bI_0, bI_n, Classical.not_not] at *)
  (try simp (disch := omega) only [i32_id] at *)
  first | done | omega | ((repeat' (with_reducible apply And.intro)) <;> first | assumption | rfl | omega | (unfold rTold; rw [if_neg (by omega)]) | (unfold rTold; rw [if_pos (by omega)]) | grind [upI])
theorem vX3_told_2 (s : MS) (a1 : Int) (hp : tOK (s.2 6)) (c_2 : ¬ (bI ((0 : Int) ≤ a1 ∧ a1 ≤ (i32 ((s.2 6 5) - 1)))) = 0) : (0 ≤ a1 ∧ a1 < 100) := by
  have hT := tOK_T hp
  (try simp only [bI_0, bI_n, Classical.not_not] at *)
  (try unfold lex3)
  (try simp only [bI_0, bI_n, Classical.not_not] at *)
  (try simp (disch := omega) only [i32_id] at *)
  first | done | omega | ((repeat' (with_reducible apply And.intro)) <;> first | assumption | rfl | omega | (unfold rTold; rw [if_neg (by omega)]) | (unfold rTold; rw [if_pos (by omega)]) | grind [upI])
theorem vX3_told_3 (s : MS) (a1 : Int) (hp : tOK (s.2 6)) (c_2 : ¬ (bI ((0 : Int) ≤ a1 ∧ a1 ≤ (i32 ((s.2 6 5) - 1)))) = 0) (o_3 : (0 ≤ a1 ∧ a1 < 100)) : (s.2 9 a1) = (rTold (s.2 6) (s.2 9) a1) := by
  have hT := tOK_T hp
  (try simp only [bI_0, bI_n, Classical.not_not] at *)
  (try unfold lex3)
  (try simp only [bI_0, bI_n, Classical.not_not] at *)
  (try simp (disch := omega) only [i32_id] at *)
  first | done | omega | ((repeat' (with_reducible apply And.intro)) <;> first | assumption | rfl | omega | (unfold rTold; rw [if_neg (by omega)]) | (unfold rTold; rw [if_pos (by omega)]) | grind [upI])
theorem ctX3_told (b : AH) (s : MS) (a1 : Int) (hp : tOK (s.2 6)) : MC mX3_told 3 b s [vI a1] (QX3_told s a1) := by
  refine MC.of (by decide) rfl (Nat.le_of_ble_eq_true rfl) (JW.steq (s2 := sS s 0 (s.1 0)) (by simp only [sA_id, sS_id]) ?_)
  refine bX3_told_0 b s a1 (s.1 0) ?_
  refine ⟨fun c_2 => ?_, fun c_2 => ?_⟩
  · exact ⟨(rI_c (vX3_told_1 s a1 hp c_2)), rfl⟩
  · have o_3 : (0 ≤ a1 ∧ a1 < 100) := (vX3_told_2 s a1 hp c_2)
    refine ⟨o_3, ?_⟩
    exact ⟨(rI_c (vX3_told_3 s a1 hp c_2 o_3)), rfl⟩
def HX3_fault_0 (Q : Option AV → MS → Prop) (b : AH) (s : MS) (x1 : Int) (k0 : Int) : Prop := MW mX3_fault 1 Q b 0 [(0, vR 351), (1, vI x1)] [] (sS s 0 k0)
theorem bX3_fault_0 {Q : Option AV → MS → Prop} (b : AH) (s : MS) (x1 : Int) (k0 : Int) (K : (¬ x1 = 0 → (¬ x1 = 1 → Q (some (vI (-1))) (sS s 0 0)) ∧ (x1 = 1 → Q (some (vI (s.1 15))) (sS s 0 0))) ∧ (x1 = 0 → Q (some (vI (s.1 14))) (sS s 0 0))) : HX3_fault_0 Q b s x1 k0 := by
  refine JW.aload_n dX3_fault_0 rfl ?_
  refine JW.iconst dX3_fault_1 rfl ?_
  refine JW.mputI dX3_fault_2 (pX3_77 _) rfl ?_
  refine JW.steq (s2 := sS s 0 0) (by simp only [sA_A, sS_S, sA_S, sA_lt, sS_lt, Nat.reduceLT, id_eq] <;> rfl) ?_
  refine JW.iload_n dX3_fault_5 rfl ?_
  refine JW.if_ne (tgt := 16) dX3_fault_6 rfl (fun c_1 => ?_) (fun c_1 => ?_)
  · have K := K.1 c_1
    refine JW.iload_n dX3_fault_16 rfl ?_
    refine JW.iconst dX3_fault_17 rfl ?_
    refine JW.icmp_ne (tgt := 28) dX3_fault_18 rfl (fun c_2 => ?_) (fun c_2 => ?_)
    · have K := K.1 c_2
      refine JW.iconst dX3_fault_28 rfl ?_
      exact JW.ireturn dX3_fault_29 rfl rfl ⟨_, rfl, K⟩
    · have K := K.2 c_2
      refine JW.aload_n dX3_fault_21 rfl ?_
      refine JW.mget (v := vI (s.1 15)) dX3_fault_22 fX3_27 rfl ?_
      refine JW.goto (tgt := 29) dX3_fault_25 rfl ?_
      exact JW.ireturn dX3_fault_29 rfl rfl ⟨_, rfl, K⟩
  · have K := K.2 c_1
    refine JW.aload_n dX3_fault_9 rfl ?_
    refine JW.mget (v := vI (s.1 14)) dX3_fault_10 fX3_156 rfl ?_
    refine JW.goto (tgt := 29) dX3_fault_13 rfl ?_
    exact JW.ireturn dX3_fault_29 rfl rfl ⟨_, rfl, K⟩
def QX3_fault (s : MS) (a1 : Int) : Option AV → MS → Prop := fun v s' => v = some (vI (rFault (s.1 14) (s.1 15) a1)) ∧ s' = sS s 0 (0)
theorem vX3_fault_1 (s : MS) (a1 : Int) (c_1 : ¬ a1 = 0) (c_2 : ¬ a1 = 1) : (-1) = (rFault (s.1 14) (s.1 15) a1) := by
  unfold rFault
  first | rw [if_pos (by omega)] | rw [if_neg (by omega), if_pos (by omega)] | rw [if_neg (by omega), if_neg (by omega)]
theorem vX3_fault_2 (s : MS) (a1 : Int) (c_1 : ¬ a1 = 0) (c_2 : a1 = 1) : (s.1 15) = (rFault (s.1 14) (s.1 15) a1) := by
  unfold rFault
  first | rw [if_pos (by omega)] | rw [if_neg (by omega), if_pos (by omega)] | rw [if_neg (by omega), if_neg (by omega)]
theorem vX3_fault_3 (s : MS) (a1 : Int) (c_1 : a1 = 0) : (s.1 14) = (rFault (s.1 14) (s.1 15) a1) := by
  unfold rFault
  first | rw [if_pos (by omega)] | rw [if_neg (by omega), if_pos (by omega)] | rw [if_neg (by omega), if_neg (by omega)]
theorem ctX3_fault (b : AH) (s : MS) (a1 : Int) : MC mX3_fault 1 b s [vI a1] (QX3_fault s a1) := by
  refine MC.of (by decide) rfl (Nat.le_of_ble_eq_true rfl) (JW.steq (s2 := sS s 0 (s.1 0)) (by simp only [sA_id, sS_id]) ?_)
  refine bX3_fault_0 b s a1 (s.1 0) ?_
  refine ⟨fun c_1 => ?_, fun c_1 => ?_⟩
  · refine ⟨fun c_2 => ?_, fun c_2 => ?_⟩
    · exact ⟨(rI_c (vX3_fault_1 s a1 c_1 c_2)), rfl⟩
    · exact ⟨(rI_c (vX3_fault_2 s a1 c_1 c_2)), rfl⟩
  · exact ⟨(rI_c (vX3_fault_3 s a1 c_1)), rfl⟩
def HX3_count_0 (Q : Option AV → MS → Prop) (b : AH) (s : MS) (x1 : Int) (k0 : Int) : Prop := MW mX3_count 2 Q b 0 [(0, vR 351), (1, vI x1)] [] (sS s 0 k0)
def HX3_count_105 (Q : Option AV → MS → Prop) (b : AH) (s : MS) (x2 : Int) (x3 : Int) (k0 : Int) : Prop := MW mX3_count 2 Q b 105 [(0, vR 351), (2, vI x2), (3, vI x3)] [] (sS s 0 k0)
theorem bX3_count_0 {Q : Option AV → MS → Prop} (b : AH) (s : MS) (x1 : Int) (k0 : Int) (K : (x1 = 0 → Q (some (vI (s.2 6 0))) (sS s 0 0)) ∧ ((x1 = 1 → Q (some (vI (s.2 6 1))) (sS s 0 0)) ∧ ((x1 = 2 → Q (some (vI (s.2 6 3))) (sS s 0 0)) ∧ ((x1 = 3 → Q (some (vI (s.2 6 4))) (sS s 0 0)) ∧ ((x1 = 4 → Q (some (vI (s.2 6 5))) (sS s 0 0)) ∧ ((x1 = 5 → Q (some (vI (s.2 5 0))) (sS s 0 0)) ∧ ((x1 = 6 → Q (some (vI (s.1 6))) (sS s 0 0)) ∧ ((x1 = 7 → HX3_count_105 Q b s 0 0 0) ∧ ((x1 < 0 ∨ 7 < x1 → Q (some (vI (-1))) (sS s 0 0))))))))))) : HX3_count_0 Q b s x1 k0 := by
  refine JW.aload_n dX3_count_0 rfl ?_
  refine JW.iconst dX3_count_1 rfl ?_
  refine JW.mputI dX3_count_2 (pX3_77 _) rfl ?_
  refine JW.steq (s2 := sS s 0 0) (by simp only [sA_A, sS_S, sA_S, sA_lt, sS_lt, Nat.reduceLT, id_eq] <;> rfl) ?_
  refine JW.iconst dX3_count_5 rfl ?_
  refine JW.istore_n (ls' := [(0, vR 351), (1, vI x1), (2, vI 0)]) dX3_count_6 (Nat.le_of_ble_eq_true rfl) rfl ?_
  refine JW.iload_n dX3_count_7 rfl ?_
  by_cases c_1 : x1 = 0
  · have K := K.1 c_1
    refine JW.tableIn (off := 48) (tgt := 56) dX3_count_8 (by omega) (by omega) (by rw [c_1]; rfl) rfl ?_
    refine JW.aload_n dX3_count_56 rfl ?_
    refine JW.mget (v := vR 358) dX3_count_57 fX3_34 rfl ?_
    refine JW.iconst dX3_count_60 rfl ?_
    refine JW.mald 6 (x := (s.2 6 0)) dX3_count_61 (Nat.le_of_ble_eq_true rfl) rfl (by decide) (by decide) rfl ?_
    exact JW.ireturn dX3_count_62 rfl rfl ⟨_, rfl, K⟩
  replace K := K.2
  by_cases c_2 : x1 = 1
  · have K := K.1 c_2
    refine JW.tableIn (off := 55) (tgt := 63) dX3_count_8 (by omega) (by omega) (by rw [c_2]; rfl) rfl ?_
    refine JW.aload_n dX3_count_63 rfl ?_
    refine JW.mget (v := vR 358) dX3_count_64 fX3_34 rfl ?_
    refine JW.iconst dX3_count_67 rfl ?_
    refine JW.mald 6 (x := (s.2 6 1)) dX3_count_68 (Nat.le_of_ble_eq_true rfl) rfl (by decide) (by decide) rfl ?_
    exact JW.ireturn dX3_count_69 rfl rfl ⟨_, rfl, K⟩
  replace K := K.2
  by_cases c_3 : x1 = 2
  · have K := K.1 c_3
    refine JW.tableIn (off := 62) (tgt := 70) dX3_count_8 (by omega) (by omega) (by rw [c_3]; rfl) rfl ?_
    refine JW.aload_n dX3_count_70 rfl ?_
    refine JW.mget (v := vR 358) dX3_count_71 fX3_34 rfl ?_
    refine JW.iconst dX3_count_74 rfl ?_
    refine JW.mald 6 (x := (s.2 6 3)) dX3_count_75 (Nat.le_of_ble_eq_true rfl) rfl (by decide) (by decide) rfl ?_
    exact JW.ireturn dX3_count_76 rfl rfl ⟨_, rfl, K⟩
  replace K := K.2
  by_cases c_4 : x1 = 3
  · have K := K.1 c_4
    refine JW.tableIn (off := 69) (tgt := 77) dX3_count_8 (by omega) (by omega) (by rw [c_4]; rfl) rfl ?_
    refine JW.aload_n dX3_count_77 rfl ?_
    refine JW.mget (v := vR 358) dX3_count_78 fX3_34 rfl ?_
    refine JW.iconst dX3_count_81 rfl ?_
    refine JW.mald 6 (x := (s.2 6 4)) dX3_count_82 (Nat.le_of_ble_eq_true rfl) rfl (by decide) (by decide) rfl ?_
    exact JW.ireturn dX3_count_83 rfl rfl ⟨_, rfl, K⟩
  replace K := K.2
  by_cases c_5 : x1 = 4
  · have K := K.1 c_5
    refine JW.tableIn (off := 76) (tgt := 84) dX3_count_8 (by omega) (by omega) (by rw [c_5]; rfl) rfl ?_
    refine JW.aload_n dX3_count_84 rfl ?_
    refine JW.mget (v := vR 358) dX3_count_85 fX3_34 rfl ?_
    refine JW.iconst dX3_count_88 rfl ?_
    refine JW.mald 6 (x := (s.2 6 5)) dX3_count_89 (Nat.le_of_ble_eq_true rfl) rfl (by decide) (by decide) rfl ?_
    exact JW.ireturn dX3_count_90 rfl rfl ⟨_, rfl, K⟩
  replace K := K.2
  by_cases c_6 : x1 = 5
  · have K := K.1 c_6
    refine JW.tableIn (off := 83) (tgt := 91) dX3_count_8 (by omega) (by omega) (by rw [c_6]; rfl) rfl ?_
    refine JW.aload_n dX3_count_91 rfl ?_
    refine JW.mget (v := vR 357) dX3_count_92 fX3_31 rfl ?_
    refine JW.iconst dX3_count_95 rfl ?_
    refine JW.mald 5 (x := (s.2 5 0)) dX3_count_96 (Nat.le_of_ble_eq_true rfl) rfl (by decide) (by decide) rfl ?_
    exact JW.ireturn dX3_count_97 rfl rfl ⟨_, rfl, K⟩
  replace K := K.2
  by_cases c_7 : x1 = 6
  · have K := K.1 c_7
    refine JW.tableIn (off := 90) (tgt := 98) dX3_count_8 (by omega) (by omega) (by rw [c_7]; rfl) rfl ?_
    refine JW.aload_n dX3_count_98 rfl ?_
    refine JW.mget (v := vI (s.1 6)) dX3_count_99 fX3_94 rfl ?_
    exact JW.ireturn dX3_count_102 rfl rfl ⟨_, rfl, K⟩
  replace K := K.2
  by_cases c_8 : x1 = 7
  · have K := K.1 c_8
    refine JW.tableIn (off := 95) (tgt := 103) dX3_count_8 (by omega) (by omega) (by rw [c_8]; rfl) rfl ?_
    refine JW.iconst dX3_count_103 rfl ?_
    refine JW.istore_n (ls' := [(0, vR 351), (1, vI x1), (2, vI 0), (3, vI 0)]) dX3_count_104 (Nat.le_of_ble_eq_true rfl) rfl ?_
    exact JW.pick [0, 2, 3] rfl K
  replace K := K.2
  have c_9 : x1 < 0 ∨ 7 < x1 := by omega
  replace K := K c_9
  refine JW.tableOut (tgt := 136) dX3_count_8 c_9 rfl ?_
  refine JW.iconst dX3_count_136 rfl ?_
  exact JW.ireturn dX3_count_137 rfl rfl ⟨_, rfl, K⟩
theorem bX3_count_105 {Q : Option AV → MS → Prop} (b : AH) (s : MS) (x2 : Int) (x3 : Int) (k0 : Int) (K : (4 ≤ x3 → Q (some (vI x2)) (sS s 0 k0)) ∧ (¬ 4 ≤ x3 → (0 ≤ x3 ∧ x3 < 4) ∧ ((¬ (s.2 0 x3) = (-1) → HX3_count_105 Q b s (i32 (x2 + 1)) (i32 (x3 + 1)) k0) ∧ ((s.2 0 x3) = (-1) → HX3_count_105 Q b s (i32 (x2 + 0)) (i32 (x3 + 1)) k0)))) : HX3_count_105 Q b s x2 x3 k0 := by
  refine JW.iload_n dX3_count_105 rfl ?_
  refine JW.iconst dX3_count_106 rfl ?_
  refine JW.icmp_ge (tgt := 134) dX3_count_107 rfl (fun c_1 => ?_) (fun c_1 => ?_)
  · have K := K.1 c_1
    refine JW.iload_n dX3_count_134 rfl ?_
    exact JW.ireturn dX3_count_135 rfl rfl ⟨_, rfl, K⟩
  · have K := K.2 c_1
    refine JW.iload_n dX3_count_110 rfl ?_
    refine JW.aload_n dX3_count_111 rfl ?_
    refine JW.mget (v := vR 352) dX3_count_112 fX3_7 rfl ?_
    refine JW.iload_n dX3_count_115 rfl ?_
    obtain ⟨o_2, K⟩ := K
    refine JW.mald 0 (x := (s.2 0 x3)) dX3_count_116 (Nat.le_of_ble_eq_true rfl) rfl o_2.1 o_2.2 rfl ?_
    refine JW.iconst dX3_count_117 rfl ?_
    refine JW.icmp_ne (tgt := 125) dX3_count_118 rfl (fun c_3 => ?_) (fun c_3 => ?_)
    · have K := K.1 c_3
      refine JW.iconst dX3_count_125 rfl ?_
      refine JW.iadd dX3_count_126 ?_
      refine JW.istore_n (ls' := [(0, vR 351), (2, vI (i32 (x2 + 1))), (3, vI x3)]) dX3_count_127 (Nat.le_of_ble_eq_true rfl) rfl ?_
      refine JW.iinc (ls' := [(0, vR 351), (2, vI (i32 (x2 + 1))), (3, vI (i32 (x3 + 1)))]) dX3_count_128 (Nat.le_of_ble_eq_true rfl) rfl rfl ?_
      refine JW.goto (tgt := 105) dX3_count_131 rfl ?_
      exact JW.pick [0, 2, 3] rfl K
    · have K := K.2 c_3
      refine JW.iconst dX3_count_121 rfl ?_
      refine JW.goto (tgt := 126) dX3_count_122 rfl ?_
      refine JW.iadd dX3_count_126 ?_
      refine JW.istore_n (ls' := [(0, vR 351), (2, vI (i32 (x2 + 0))), (3, vI x3)]) dX3_count_127 (Nat.le_of_ble_eq_true rfl) rfl ?_
      refine JW.iinc (ls' := [(0, vR 351), (2, vI (i32 (x2 + 0))), (3, vI (i32 (x3 + 1)))]) dX3_count_128 (Nat.le_of_ble_eq_true rfl) rfl rfl ?_
      refine JW.goto (tgt := 105) dX3_count_131 rfl ?_
      exact JW.pick [0, 2, 3] rfl K
def QX3_count (s : MS) (a1 : Int) : Option AV → MS → Prop := fun v s' => v = some (vI (rCount ((s.2 5) 0) (s.1 6) (s.2 6) (s.2 0) a1)) ∧ s' = sS s 0 (0)
theorem vX3_count_1 (s : MS) (a1 : Int) (x2 : Int) (x3 : Int) (k0 : Int) (hI : k0 = 0 ∧ a1 = 7 ∧ (0 ≤ x3 ∧ x3 ≤ 4) ∧ x2 = many (fun k => s.2 0 k ≠ -1) x3.toNat) (c_1 : 4 ≤ x3) : k0 = (0) := by
  (try have hb := many_b (fun k => s.2 0 k ≠ -1) x3.toNat)
  (try unfold lex3)
  (try simp only [bI_0, bI_n, Classical.not_not] at *)
  (try simp (disch := omega) only [i32_id] at *)
  first | done | omega | ((repeat' (with_reducible apply And.intro)) <;> first | assumption | rfl | omega | (exact hI.1) | (subst a1; rfl) | (unfold rCount; (repeat first | rw [if_pos (by omega)] | rw [if_neg (by omega)]); done) | (have e : x3 = 4 := (by omega); rw [hI.2.2.2, e, hI.2.1]; rfl) | (unfold rCount; (repeat first | rw [if_pos (by omega)] | rw [if_neg (by omega)]); rw [hI.2.2.2, show x3.toNat = 4 by omega]) | (have h9 := many_t (p := fun k => s.2 0 k ≠ -1) (k := x3) (by omega) (by first | assumption | exact not_not_intro (by assumption)); omega) | (have h9 := many_f (p := fun k => s.2 0 k ≠ -1) (k := x3) (by omega) (by first | assumption | exact not_not_intro (by assumption)); omega) | (have h9 : many (fun k => s.2 0 k ≠ -1) (0 : Int).toNat = 0 := rfl; omega) | grind [upI])
theorem vX3_count_2 (s : MS) (a1 : Int) (x2 : Int) (x3 : Int) (k0 : Int) (hI : k0 = 0 ∧ a1 = 7 ∧ (0 ≤ x3 ∧ x3 ≤ 4) ∧ x2 = many (fun k => s.2 0 k ≠ -1) x3.toNat) (c_1 : 4 ≤ x3) : x2 = (rCount ((s.2 5) 0) (s.1 6) (s.2 6) (s.2 0) a1) := by
  (try have hb := many_b (fun k => s.2 0 k ≠ -1) x3.toNat)
  (try unfold lex3)
  (try simp only [bI_0, bI_n, Classical.not_not] at *)
  (try simp (disch := omega) only [i32_id] at *)
  first | done | omega | ((repeat' (with_reducible apply And.intro)) <;> first | assumption | rfl | omega | (exact hI.1) | (subst a1; rfl) | (unfold rCount; (repeat first | rw [if_pos (by omega)] | rw [if_neg (by omega)]); done) | (have e : x3 = 4 := (by omega); rw [hI.2.2.2, e, hI.2.1]; rfl) | (unfold rCount; (repeat first | rw [if_pos (by omega)] | rw [if_neg (by omega)]); rw [hI.2.2.2, show x3.toNat = 4 by omega]) | (have h9 := many_t (p := fun k => s.2 0 k ≠ -1) (k := x3) (by omega) (by first | assumption | exact not_not_intro (by assumption)); omega) | (have h9 := many_f (p := fun k => s.2 0 k ≠ -1) (k := x3) (by omega) (by first | assumption | exact not_not_intro (by assumption)); omega) | (have h9 : many (fun k => s.2 0 k ≠ -1) (0 : Int).toNat = 0 := rfl; omega) | grind [upI])
theorem vX3_count_3 (s : MS) (a1 : Int) (x2 : Int) (x3 : Int) (k0 : Int) (hI : k0 = 0 ∧ a1 = 7 ∧ (0 ≤ x3 ∧ x3 ≤ 4) ∧ x2 = many (fun k => s.2 0 k ≠ -1) x3.toNat) (c_1 : ¬ 4 ≤ x3) : (0 ≤ x3 ∧ x3 < 4) := by
  (try have hb := many_b (fun k => s.2 0 k ≠ -1) x3.toNat)
  (try unfold lex3)
  (try simp only [bI_0, bI_n, Classical.not_not] at *)
  (try simp (disch := omega) only [i32_id] at *)
  first | done | omega | ((repeat' (with_reducible apply And.intro)) <;> first | assumption | rfl | omega | (exact hI.1) | (subst a1; rfl) | (unfold rCount; (repeat first | rw [if_pos (by omega)] | rw [if_neg (by omega)]); done) | (have e : x3 = 4 := (by omega); rw [hI.2.2.2, e, hI.2.1]; rfl) | (unfold rCount; (repeat first | rw [if_pos (by omega)] | rw [if_neg (by omega)]); rw [hI.2.2.2, show x3.toNat = 4 by omega]) | (have h9 := many_t (p := fun k => s.2 0 k ≠ -1) (k := x3) (by omega) (by first | assumption | exact not_not_intro (by assumption)); omega) | (have h9 := many_f (p := fun k => s.2 0 k ≠ -1) (k := x3) (by omega) (by first | assumption | exact not_not_intro (by assumption)); omega) | (have h9 : many (fun k => s.2 0 k ≠ -1) (0 : Int).toNat = 0 := rfl; omega) | grind [upI])
theorem vX3_count_4 (s : MS) (a1 : Int) (x2 : Int) (x3 : Int) (k0 : Int) (hI : k0 = 0 ∧ a1 = 7 ∧ (0 ≤ x3 ∧ x3 ≤ 4) ∧ x2 = many (fun k => s.2 0 k ≠ -1) x3.toNat) (c_1 : ¬ 4 ≤ x3) (o_2 : (0 ≤ x3 ∧ x3 < 4)) (c_3 : ¬ (s.2 0 x3) = (-1)) : k0 = 0 ∧ a1 = 7 ∧ (0 ≤ (i32 (x3 + 1)) ∧ (i32 (x3 + 1)) ≤ 4) ∧ (i32 (x2 + 1)) = many (fun k => s.2 0 k ≠ -1) (i32 (x3 + 1)).toNat := by
  (try have hb := many_b (fun k => s.2 0 k ≠ -1) x3.toNat)
  (try unfold lex3)
  (try simp only [bI_0, bI_n, Classical.not_not] at *)
  (try simp (disch := omega) only [i32_id] at *)
  first | done | omega | ((repeat' (with_reducible apply And.intro)) <;> first | assumption | rfl | omega | (exact hI.1) | (subst a1; rfl) | (unfold rCount; (repeat first | rw [if_pos (by omega)] | rw [if_neg (by omega)]); done) | (have e : x3 = 4 := (by omega); rw [hI.2.2.2, e, hI.2.1]; rfl) | (unfold rCount; (repeat first | rw [if_pos (by omega)] | rw [if_neg (by omega)]); rw [hI.2.2.2, show x3.toNat = 4 by omega]) | (have h9 := many_t (p := fun k => s.2 0 k ≠ -1) (k := x3) (by omega) (by first | assumption | exact not_not_intro (by assumption)); omega) | (have h9 := many_f (p := fun k => s.2 0 k ≠ -1) (k := x3) (by omega) (by first | assumption | exact not_not_intro (by assumption)); omega) | (have h9 : many (fun k => s.2 0 k ≠ -1) (0 : Int).toNat = 0 := rfl; omega) | grind [upI])
theorem vX3_count_5 (s : MS) (a1 : Int) (x2 : Int) (x3 : Int) (k0 : Int) (hI : k0 = 0 ∧ a1 = 7 ∧ (0 ≤ x3 ∧ x3 ≤ 4) ∧ x2 = many (fun k => s.2 0 k ≠ -1) x3.toNat) (c_1 : ¬ 4 ≤ x3) (o_2 : (0 ≤ x3 ∧ x3 < 4)) (c_3 : ¬ (s.2 0 x3) = (-1)) : lex3 0 0 ((4 - (i32 (x3 + 1))).toNat) 0 0 ((4 - x3).toNat) := by
  (try have hb := many_b (fun k => s.2 0 k ≠ -1) x3.toNat)
  (try unfold lex3)
  (try simp only [bI_0, bI_n, Classical.not_not] at *)
  (try simp (disch := omega) only [i32_id] at *)
  first | done | omega | ((repeat' (with_reducible apply And.intro)) <;> first | assumption | rfl | omega | (exact hI.1) | (subst a1; rfl) | (unfold rCount; (repeat first | rw [if_pos (by omega)] | rw [if_neg (by omega)]); done) | (have e : x3 = 4 := (by omega); rw [hI.2.2.2, e, hI.2.1]; rfl) | (unfold rCount; (repeat first | rw [if_pos (by omega)] | rw [if_neg (by omega)]); rw [hI.2.2.2, show x3.toNat = 4 by omega]) | (have h9 := many_t (p := fun k => s.2 0 k ≠ -1) (k := x3) (by omega) (by first | assumption | exact not_not_intro (by assumption)); omega) | (have h9 := many_f (p := fun k => s.2 0 k ≠ -1) (k := x3) (by omega) (by first | assumption | exact not_not_intro (by assumption)); omega) | (have h9 : many (fun k => s.2 0 k ≠ -1) (0 : Int).toNat = 0 := rfl; omega) | grind [upI])
theorem vX3_count_6 (s : MS) (a1 : Int) (x2 : Int) (x3 : Int) (k0 : Int) (hI : k0 = 0 ∧ a1 = 7 ∧ (0 ≤ x3 ∧ x3 ≤ 4) ∧ x2 = many (fun k => s.2 0 k ≠ -1) x3.toNat) (c_1 : ¬ 4 ≤ x3) (o_2 : (0 ≤ x3 ∧ x3 < 4)) (c_3 : (s.2 0 x3) = (-1)) : k0 = 0 ∧ a1 = 7 ∧ (0 ≤ (i32 (x3 + 1)) ∧ (i32 (x3 + 1)) ≤ 4) ∧ (i32 (x2 + 0)) = many (fun k => s.2 0 k ≠ -1) (i32 (x3 + 1)).toNat := by
  (try have hb := many_b (fun k => s.2 0 k ≠ -1) x3.toNat)
  (try unfold lex3)
  (try simp only [bI_0, bI_n, Classical.not_not] at *)
  (try simp (disch := omega) only [i32_id] at *)
  first | done | omega | ((repeat' (with_reducible apply And.intro)) <;> first | assumption | rfl | omega | (exact hI.1) | (subst a1; rfl) | (unfold rCount; (repeat first | rw [if_pos (by omega)] | rw [if_neg (by omega)]); done) | (have e : x3 = 4 := (by omega); rw [hI.2.2.2, e, hI.2.1]; rfl) | (unfold rCount; (repeat first | rw [if_pos (by omega)] | rw [if_neg (by omega)]); rw [hI.2.2.2, show x3.toNat = 4 by omega]) | (have h9 := many_t (p := fun k => s.2 0 k ≠ -1) (k := x3) (by omega) (by first | assumption | exact not_not_intro (by assumption)); omega) | (have h9 := many_f (p := fun k => s.2 0 k ≠ -1) (k := x3) (by omega) (by first | assumption | exact not_not_intro (by assumption)); omega) | (have h9 : many (fun k => s.2 0 k ≠ -1) (0 : Int).toNat = 0 := rfl; omega) | grind [upI])
theorem vX3_count_7 (s : MS) (a1 : Int) (x2 : Int) (x3 : Int) (k0 : Int) (hI : k0 = 0 ∧ a1 = 7 ∧ (0 ≤ x3 ∧ x3 ≤ 4) ∧ x2 = many (fun k => s.2 0 k ≠ -1) x3.toNat) (c_1 : ¬ 4 ≤ x3) (o_2 : (0 ≤ x3 ∧ x3 < 4)) (c_3 : (s.2 0 x3) = (-1)) : lex3 0 0 ((4 - (i32 (x3 + 1))).toNat) 0 0 ((4 - x3).toNat) := by
  (try have hb := many_b (fun k => s.2 0 k ≠ -1) x3.toNat)
  (try unfold lex3)
  (try simp only [bI_0, bI_n, Classical.not_not] at *)
  (try simp (disch := omega) only [i32_id] at *)
  first | done | omega | ((repeat' (with_reducible apply And.intro)) <;> first | assumption | rfl | omega | (exact hI.1) | (subst a1; rfl) | (unfold rCount; (repeat first | rw [if_pos (by omega)] | rw [if_neg (by omega)]); done) | (have e : x3 = 4 := (by omega); rw [hI.2.2.2, e, hI.2.1]; rfl) | (unfold rCount; (repeat first | rw [if_pos (by omega)] | rw [if_neg (by omega)]); rw [hI.2.2.2, show x3.toNat = 4 by omega]) | (have h9 := many_t (p := fun k => s.2 0 k ≠ -1) (k := x3) (by omega) (by first | assumption | exact not_not_intro (by assumption)); omega) | (have h9 := many_f (p := fun k => s.2 0 k ≠ -1) (k := x3) (by omega) (by first | assumption | exact not_not_intro (by assumption)); omega) | (have h9 : many (fun k => s.2 0 k ≠ -1) (0 : Int).toNat = 0 := rfl; omega) | grind [upI])
theorem vX3_count_8 (s : MS) (a1 : Int) (c_1 : a1 = 0) : (s.2 6 0) = (rCount ((s.2 5) 0) (s.1 6) (s.2 6) (s.2 0) a1) := by
  (try have hb := many_b (fun k => s.2 0 k ≠ -1) x3.toNat)
  (try unfold lex3)
  (try simp only [bI_0, bI_n, Classical.not_not] at *)
  (try simp (disch := omega) only [i32_id] at *)
  first | done | omega | ((repeat' (with_reducible apply And.intro)) <;> first | assumption | rfl | omega | (exact hI.1) | (subst a1; rfl) | (unfold rCount; (repeat first | rw [if_pos (by omega)] | rw [if_neg (by omega)]); done) | (have e : x3 = 4 := (by omega); rw [hI.2.2.2, e, hI.2.1]; rfl) | (unfold rCount; (repeat first | rw [if_pos (by omega)] | rw [if_neg (by omega)]); rw [hI.2.2.2, show x3.toNat = 4 by omega]) | (have h9 := many_t (p := fun k => s.2 0 k ≠ -1) (k := x3) (by omega) (by first | assumption | exact not_not_intro (by assumption)); omega) | (have h9 := many_f (p := fun k => s.2 0 k ≠ -1) (k := x3) (by omega) (by first | assumption | exact not_not_intro (by assumption)); omega) | (have h9 : many (fun k => s.2 0 k ≠ -1) (0 : Int).toNat = 0 := rfl; omega) | grind [upI])
theorem vX3_count_9 (s : MS) (a1 : Int) (c_2 : a1 = 1) : (s.2 6 1) = (rCount ((s.2 5) 0) (s.1 6) (s.2 6) (s.2 0) a1) := by
  (try have hb := many_b (fun k => s.2 0 k ≠ -1) x3.toNat)
  (try unfold lex3)
  (try simp only [bI_0, bI_n, Classical.not_not] at *)
  (try simp (disch := omega) only [i32_id] at *)
  first | done | omega | ((repeat' (with_reducible apply And.intro)) <;> first | assumption | rfl | omega | (exact hI.1) | (subst a1; rfl) | (unfold rCount; (repeat first | rw [if_pos (by omega)] | rw [if_neg (by omega)]); done) | (have e : x3 = 4 := (by omega); rw [hI.2.2.2, e, hI.2.1]; rfl) | (unfold rCount; (repeat first | rw [if_pos (by omega)] | rw [if_neg (by omega)]); rw [hI.2.2.2, show x3.toNat = 4 by omega]) | (have h9 := many_t (p := fun k => s.2 0 k ≠ -1) (k := x3) (by omega) (by first | assumption | exact not_not_intro (by assumption)); omega) | (have h9 := many_f (p := fun k => s.2 0 k ≠ -1) (k := x3) (by omega) (by first | assumption | exact not_not_intro (by assumption)); omega) | (have h9 : many (fun k => s.2 0 k ≠ -1) (0 : Int).toNat = 0 := rfl; omega) | grind [upI])
theorem vX3_count_10 (s : MS) (a1 : Int) (c_3 : a1 = 2) : (s.2 6 3) = (rCount ((s.2 5) 0) (s.1 6) (s.2 6) (s.2 0) a1) := by
  (try have hb := many_b (fun k => s.2 0 k ≠ -1) x3.toNat)
  (try unfold lex3)
  (try simp only [bI_0, bI_n, Classical.not_not] at *)
  (try simp (disch := omega) only [i32_id] at *)
  first | done | omega | ((repeat' (with_reducible apply And.intro)) <;> first | assumption | rfl | omega | (exact hI.1) | (subst a1; rfl) | (unfold rCount; (repeat first | rw [if_pos (by omega)] | rw [if_neg (by omega)]); done) | (have e : x3 = 4 := (by omega); rw [hI.2.2.2, e, hI.2.1]; rfl) | (unfold rCount; (repeat first | rw [if_pos (by omega)] | rw [if_neg (by omega)]); rw [hI.2.2.2, show x3.toNat = 4 by omega]) | (have h9 := many_t (p := fun k => s.2 0 k ≠ -1) (k := x3) (by omega) (by first | assumption | exact not_not_intro (by assumption)); omega) | (have h9 := many_f (p := fun k => s.2 0 k ≠ -1) (k := x3) (by omega) (by first | assumption | exact not_not_intro (by assumption)); omega) | (have h9 : many (fun k => s.2 0 k ≠ -1) (0 : Int).toNat = 0 := rfl; omega) | grind [upI])
theorem vX3_count_11 (s : MS) (a1 : Int) (c_4 : a1 = 3) : (s.2 6 4) = (rCount ((s.2 5) 0) (s.1 6) (s.2 6) (s.2 0) a1) := by
  (try have hb := many_b (fun k => s.2 0 k ≠ -1) x3.toNat)
  (try unfold lex3)
  (try simp only [bI_0, bI_n, Classical.not_not] at *)
  (try simp (disch := omega) only [i32_id] at *)
  first | done | omega | ((repeat' (with_reducible apply And.intro)) <;> first | assumption | rfl | omega | (exact hI.1) | (subst a1; rfl) | (unfold rCount; (repeat first | rw [if_pos (by omega)] | rw [if_neg (by omega)]); done) | (have e : x3 = 4 := (by omega); rw [hI.2.2.2, e, hI.2.1]; rfl) | (unfold rCount; (repeat first | rw [if_pos (by omega)] | rw [if_neg (by omega)]); rw [hI.2.2.2, show x3.toNat = 4 by omega]) | (have h9 := many_t (p := fun k => s.2 0 k ≠ -1) (k := x3) (by omega) (by first | assumption | exact not_not_intro (by assumption)); omega) | (have h9 := many_f (p := fun k => s.2 0 k ≠ -1) (k := x3) (by omega) (by first | assumption | exact not_not_intro (by assumption)); omega) | (have h9 : many (fun k => s.2 0 k ≠ -1) (0 : Int).toNat = 0 := rfl; omega) | grind [upI])
theorem vX3_count_12 (s : MS) (a1 : Int) (c_5 : a1 = 4) : (s.2 6 5) = (rCount ((s.2 5) 0) (s.1 6) (s.2 6) (s.2 0) a1) := by
  (try have hb := many_b (fun k => s.2 0 k ≠ -1) x3.toNat)
  (try unfold lex3)
  (try simp only [bI_0, bI_n, Classical.not_not] at *)
  (try simp (disch := omega) only [i32_id] at *)
  first | done | omega | ((repeat' (with_reducible apply And.intro)) <;> first | assumption | rfl | omega | (exact hI.1) | (subst a1; rfl) | (unfold rCount; (repeat first | rw [if_pos (by omega)] | rw [if_neg (by omega)]); done) | (have e : x3 = 4 := (by omega); rw [hI.2.2.2, e, hI.2.1]; rfl) | (unfold rCount; (repeat first | rw [if_pos (by omega)] | rw [if_neg (by omega)]); rw [hI.2.2.2, show x3.toNat = 4 by omega]) | (have h9 := many_t (p := fun k => s.2 0 k ≠ -1) (k := x3) (by omega) (by first | assumption | exact not_not_intro (by assumption)); omega) | (have h9 := many_f (p := fun k => s.2 0 k ≠ -1) (k := x3) (by omega) (by first | assumption | exact not_not_intro (by assumption)); omega) | (have h9 : many (fun k => s.2 0 k ≠ -1) (0 : Int).toNat = 0 := rfl; omega) | grind [upI])
theorem vX3_count_13 (s : MS) (a1 : Int) (c_6 : a1 = 5) : (s.2 5 0) = (rCount ((s.2 5) 0) (s.1 6) (s.2 6) (s.2 0) a1) := by
  (try have hb := many_b (fun k => s.2 0 k ≠ -1) x3.toNat)
  (try unfold lex3)
  (try simp only [bI_0, bI_n, Classical.not_not] at *)
  (try simp (disch := omega) only [i32_id] at *)
  first | done | omega | ((repeat' (with_reducible apply And.intro)) <;> first | assumption | rfl | omega | (exact hI.1) | (subst a1; rfl) | (unfold rCount; (repeat first | rw [if_pos (by omega)] | rw [if_neg (by omega)]); done) | (have e : x3 = 4 := (by omega); rw [hI.2.2.2, e, hI.2.1]; rfl) | (unfold rCount; (repeat first | rw [if_pos (by omega)] | rw [if_neg (by omega)]); rw [hI.2.2.2, show x3.toNat = 4 by omega]) | (have h9 := many_t (p := fun k => s.2 0 k ≠ -1) (k := x3) (by omega) (by first | assumption | exact not_not_intro (by assumption)); omega) | (have h9 := many_f (p := fun k => s.2 0 k ≠ -1) (k := x3) (by omega) (by first | assumption | exact not_not_intro (by assumption)); omega) | (have h9 : many (fun k => s.2 0 k ≠ -1) (0 : Int).toNat = 0 := rfl; omega) | grind [upI])
theorem vX3_count_14 (s : MS) (a1 : Int) (c_7 : a1 = 6) : (s.1 6) = (rCount ((s.2 5) 0) (s.1 6) (s.2 6) (s.2 0) a1) := by
  (try have hb := many_b (fun k => s.2 0 k ≠ -1) x3.toNat)
  (try unfold lex3)
  (try simp only [bI_0, bI_n, Classical.not_not] at *)
  (try simp (disch := omega) only [i32_id] at *)
  first | done | omega | ((repeat' (with_reducible apply And.intro)) <;> first | assumption | rfl | omega | (exact hI.1) | (subst a1; rfl) | (unfold rCount; (repeat first | rw [if_pos (by omega)] | rw [if_neg (by omega)]); done) | (have e : x3 = 4 := (by omega); rw [hI.2.2.2, e, hI.2.1]; rfl) | (unfold rCount; (repeat first | rw [if_pos (by omega)] | rw [if_neg (by omega)]); rw [hI.2.2.2, show x3.toNat = 4 by omega]) | (have h9 := many_t (p := fun k => s.2 0 k ≠ -1) (k := x3) (by omega) (by first | assumption | exact not_not_intro (by assumption)); omega) | (have h9 := many_f (p := fun k => s.2 0 k ≠ -1) (k := x3) (by omega) (by first | assumption | exact not_not_intro (by assumption)); omega) | (have h9 : many (fun k => s.2 0 k ≠ -1) (0 : Int).toNat = 0 := rfl; omega) | grind [upI])
theorem vX3_count_15 (s : MS) (a1 : Int) (c_8 : a1 = 7) : (0 : Int) = 0 ∧ a1 = 7 ∧ (0 ≤ (0 : Int) ∧ (0 : Int) ≤ 4) ∧ (0 : Int) = many (fun k => s.2 0 k ≠ -1) (0 : Int).toNat := by
  (try have hb := many_b (fun k => s.2 0 k ≠ -1) x3.toNat)
  (try unfold lex3)
  (try simp only [bI_0, bI_n, Classical.not_not] at *)
  (try simp (disch := omega) only [i32_id] at *)
  first | done | omega | ((repeat' (with_reducible apply And.intro)) <;> first | assumption | rfl | omega | (exact hI.1) | (subst a1; rfl) | (unfold rCount; (repeat first | rw [if_pos (by omega)] | rw [if_neg (by omega)]); done) | (have e : x3 = 4 := (by omega); rw [hI.2.2.2, e, hI.2.1]; rfl) | (unfold rCount; (repeat first | rw [if_pos (by omega)] | rw [if_neg (by omega)]); rw [hI.2.2.2, show x3.toNat = 4 by omega]) | (have h9 := many_t (p := fun k => s.2 0 k ≠ -1) (k := x3) (by omega) (by first | assumption | exact not_not_intro (by assumption)); omega) | (have h9 := many_f (p := fun k => s.2 0 k ≠ -1) (k := x3) (by omega) (by first | assumption | exact not_not_intro (by assumption)); omega) | (have h9 : many (fun k => s.2 0 k ≠ -1) (0 : Int).toNat = 0 := rfl; omega) | grind [upI])
theorem vX3_count_16 (s : MS) (a1 : Int) (c_9 : a1 < 0 ∨ 7 < a1) : (-1) = (rCount ((s.2 5) 0) (s.1 6) (s.2 6) (s.2 0) a1) := by
  (try have hb := many_b (fun k => s.2 0 k ≠ -1) x3.toNat)
  (try unfold lex3)
  (try simp only [bI_0, bI_n, Classical.not_not] at *)
  (try simp (disch := omega) only [i32_id] at *)
  first | done | omega | ((repeat' (with_reducible apply And.intro)) <;> first | assumption | rfl | omega | (exact hI.1) | (subst a1; rfl) | (unfold rCount; (repeat first | rw [if_pos (by omega)] | rw [if_neg (by omega)]); done) | (have e : x3 = 4 := (by omega); rw [hI.2.2.2, e, hI.2.1]; rfl) | (unfold rCount; (repeat first | rw [if_pos (by omega)] | rw [if_neg (by omega)]); rw [hI.2.2.2, show x3.toNat = 4 by omega]) | (have h9 := many_t (p := fun k => s.2 0 k ≠ -1) (k := x3) (by omega) (by first | assumption | exact not_not_intro (by assumption)); omega) | (have h9 := many_f (p := fun k => s.2 0 k ≠ -1) (k := x3) (by omega) (by first | assumption | exact not_not_intro (by assumption)); omega) | (have h9 : many (fun k => s.2 0 k ≠ -1) (0 : Int).toNat = 0 := rfl; omega) | grind [upI])
theorem allX3_count (b : AH) (s : MS) (a1 : Int) : ∀ m1 m2 m3 : Nat, (∀ (x2 : Int) (x3 : Int) (k0 : Int), m1 = 0 → m2 = 0 → m3 = ((4 - x3).toNat) → (k0 = 0 ∧ a1 = 7 ∧ (0 ≤ x3 ∧ x3 ≤ 4) ∧ x2 = many (fun k => s.2 0 k ≠ -1) x3.toNat) → HX3_count_105 (QX3_count s a1) b s x2 x3 k0) := by
  refine lex3_ind ?_
  intro m1 m2 m3 ih
  rintro x2 x3 k0 rfl rfl rfl hI
  refine bX3_count_105 b s x2 x3 k0 ?_
  refine ⟨fun c_1 => ?_, fun c_1 => ?_⟩
  · exact ⟨(rI_c (vX3_count_2 s a1 x2 x3 k0 hI c_1)), (sS_c rfl (vX3_count_1 s a1 x2 x3 k0 hI c_1))⟩
  · have o_2 : (0 ≤ x3 ∧ x3 < 4) := (vX3_count_3 s a1 x2 x3 k0 hI c_1)
    refine ⟨o_2, ?_⟩
    refine ⟨fun c_3 => ?_, fun c_3 => ?_⟩
    · exact (ih _ _ _ (vX3_count_5 s a1 x2 x3 k0 hI c_1 o_2 c_3)) (i32 (x2 + 1)) (i32 (x3 + 1)) k0 rfl rfl rfl (vX3_count_4 s a1 x2 x3 k0 hI c_1 o_2 c_3)
    · exact (ih _ _ _ (vX3_count_7 s a1 x2 x3 k0 hI c_1 o_2 c_3)) (i32 (x2 + 0)) (i32 (x3 + 1)) k0 rfl rfl rfl (vX3_count_6 s a1 x2 x3 k0 hI c_1 o_2 c_3)
theorem ctX3_count (b : AH) (s : MS) (a1 : Int) : MC mX3_count 2 b s [vI a1] (QX3_count s a1) := by
  refine MC.of (by decide) rfl (Nat.le_of_ble_eq_true rfl) (JW.steq (s2 := sS s 0 (s.1 0)) (by simp only [sA_id, sS_id]) ?_)
  refine bX3_count_0 b s a1 (s.1 0) ?_
  refine ⟨fun c_1 => ?_, ?_⟩
  · exact ⟨(rI_c (vX3_count_8 s a1 c_1)), rfl⟩
  refine ⟨fun c_2 => ?_, ?_⟩
  · exact ⟨(rI_c (vX3_count_9 s a1 c_2)), rfl⟩
  refine ⟨fun c_3 => ?_, ?_⟩
  · exact ⟨(rI_c (vX3_count_10 s a1 c_3)), rfl⟩
  refine ⟨fun c_4 => ?_, ?_⟩
  · exact ⟨(rI_c (vX3_count_11 s a1 c_4)), rfl⟩
  refine ⟨fun c_5 => ?_, ?_⟩
  · exact ⟨(rI_c (vX3_count_12 s a1 c_5)), rfl⟩
  refine ⟨fun c_6 => ?_, ?_⟩
  · exact ⟨(rI_c (vX3_count_13 s a1 c_6)), rfl⟩
  refine ⟨fun c_7 => ?_, ?_⟩
  · exact ⟨(rI_c (vX3_count_14 s a1 c_7)), rfl⟩
  refine ⟨fun c_8 => ?_, ?_⟩
  · exact (allX3_count b s a1 _ _ _) 0 0 0 rfl rfl rfl (vX3_count_15 s a1 c_8)
  intro c_9
  exact ⟨(rI_c (vX3_count_16 s a1 c_9)), rfl⟩
def HX3_four_0 (Q : Option AV → MS → Prop) (b : AH) (s : MS) (x1 : Int) (f4 : Int → Int) (k6 : Int) : Prop := MW mX3_four 1 Q b 0 [(0, vR 351), (1, vI x1)] [] (sS (sA s 4 f4) 6 k6)
def HX3_four_3 (Q : Option AV → MS → Prop) (b : AH) (s : MS) (x1 : Int) (x2 : Int) (f4 : Int → Int) (k6 : Int) : Prop := MW mX3_four 1 Q b 3 [(0, vR 351), (1, vI x1), (2, vI x2)] [] (sS (sA s 4 f4) 6 k6)
theorem bX3_four_0 {Q : Option AV → MS → Prop} (b : AH) (s : MS) (x1 : Int) (f4 : Int → Int) (k6 : Int) (K : HX3_four_3 Q b s x1 24 f4 k6) : HX3_four_0 Q b s x1 f4 k6 := by
  refine JW.bipush dX3_four_0 rfl ?_
  refine JW.istore_n (ls' := [(0, vR 351), (1, vI x1), (2, vI 24)]) dX3_four_2 (Nat.le_of_ble_eq_true rfl) rfl ?_
  exact JW.pick [0, 1, 2] rfl K
theorem bX3_four_3 {Q : Option AV → MS → Prop} (b : AH) (s : MS) (x1 : Int) (x2 : Int) (f4 : Int → Int) (k6 : Int) (K : (x2 < 0 → Q none (sS (sA s 4 f4) 6 k6)) ∧ (¬ x2 < 0 → (0 ≤ k6 ∧ k6 < 800) ∧ (HX3_four_3 Q b s x1 (i32 (x2 + (-8))) (upI f4 k6 (jb8 (jb8 (jshr x1 x2)))) (i32 (k6 + 1))))) : HX3_four_3 Q b s x1 x2 f4 k6 := by
  refine JW.iload_n dX3_four_3 rfl ?_
  refine JW.if_lt (tgt := 36) dX3_four_4 rfl (fun c_1 => ?_) (fun c_1 => ?_)
  · have K := K.1 c_1
    exact JW.vreturn dX3_four_36 rfl ⟨_, rfl, K⟩
  · have K := K.2 c_1
    refine JW.aload_n dX3_four_7 rfl ?_
    refine JW.mget (v := vR 356) dX3_four_8 fX3_23 rfl ?_
    refine JW.aload_n dX3_four_11 rfl ?_
    refine JW.mget (v := vI k6) dX3_four_12 fX3_94 rfl ?_
    refine JW.iload_n dX3_four_15 rfl ?_
    refine JW.iload_n dX3_four_16 rfl ?_
    refine JW.ishr dX3_four_17 ?_
    refine JW.i2b dX3_four_18 ?_
    obtain ⟨o_2, K⟩ := K
    refine JW.mbst 4 (f := f4) dX3_four_19 (Nat.le_of_ble_eq_true rfl) rfl o_2.1 o_2.2 rfl ?_
    refine JW.steq (s2 := sS (sA s 4 (upI f4 k6 (jb8 (jb8 (jshr x1 x2))))) 6 k6) (by simp only [sA_A, sS_S, sA_S, sA_lt, sS_lt, Nat.reduceLT, id_eq] <;> rfl) ?_
    refine JW.aload_n dX3_four_20 rfl ?_
    refine JW.dup dX3_four_21 rfl ?_
    refine JW.mget (v := vI k6) dX3_four_22 fX3_94 rfl ?_
    refine JW.iconst dX3_four_25 rfl ?_
    refine JW.iadd dX3_four_26 ?_
    refine JW.mputI dX3_four_27 (pX3_94 _) rfl ?_
    refine JW.steq (s2 := sS (sA s 4 (upI f4 k6 (jb8 (jb8 (jshr x1 x2))))) 6 (i32 (k6 + 1))) (by simp only [sA_A, sS_S, sA_S, sA_lt, sS_lt, Nat.reduceLT, id_eq] <;> rfl) ?_
    refine JW.iinc (ls' := [(0, vR 351), (1, vI x1), (2, vI (i32 (x2 + (-8))))]) dX3_four_30 (Nat.le_of_ble_eq_true rfl) rfl rfl ?_
    refine JW.goto (tgt := 3) dX3_four_33 rfl ?_
    exact JW.pick [0, 1, 2] rfl K
def QX3_four (s : MS) (a1 : Int) : Option AV → MS → Prop := fun v s' => v = none ∧ s' = sS (sA s 4 (fourT (s.2 4) (s.1 6) a1)) 6 ((s.1 6) + 4)
theorem vX3_four_1 (s : MS) (a1 : Int) (hp : 0 ≤ (s.1 6) ∧ (s.1 6) + 4 ≤ 800) (x1 : Int) (x2 : Int) (f4 : Int → Int) (k6 : Int) (hI : x1 = a1 ∧ (0 ≤ k6 - s.1 6 ∧ k6 - s.1 6 ≤ 4) ∧ x2 = 24 - 8 * (k6 - s.1 6) ∧ f4 = fourP (s.2 4) (s.1 6) a1 (k6 - s.1 6)) (c_1 : x2 < 0) : f4 = (fourT (s.2 4) (s.1 6) a1) := by
  (try unfold lex3)
  (try simp only [bI_0, bI_n, Classical.not_not] at *)
  (try simp (disch := omega) only [i32_id] at *)
  first | done | omega | ((repeat' (with_reducible apply And.intro)) <;> first | assumption | rfl | omega | (rw [hI.2.2.2, show k6 - s.1 6 = 4 by omega]; rfl) | (rw [hI.2.2.2, hI.1, hI.2.2.1, jb8_jb8, show k6 + 1 - s.1 6 = k6 - s.1 6 + 1 by omega]; exact fourP_s (by omega) (by omega) rfl) | (rw [show s.1 6 - s.1 6 = 0 by omega]; exact (fourP_0 _ _ _).symm) | grind [upI])
theorem vX3_four_2 (s : MS) (a1 : Int) (hp : 0 ≤ (s.1 6) ∧ (s.1 6) + 4 ≤ 800) (x1 : Int) (x2 : Int) (f4 : Int → Int) (k6 : Int) (hI : x1 = a1 ∧ (0 ≤ k6 - s.1 6 ∧ k6 - s.1 6 ≤ 4) ∧ x2 = 24 - 8 * (k6 - s.1 6) ∧ f4 = fourP (s.2 4) (s.1 6) a1 (k6 - s.1 6)) (c_1 : x2 < 0) : k6 = ((s.1 6) + 4) := by
  (try unfold lex3)
  (try simp only [bI_0, bI_n, Classical.not_not] at *)
  (try simp (disch := omega) only [i32_id] at *)
  first | done | omega | ((repeat' (with_reducible apply And.intro)) <;> first | assumption | rfl | omega | (rw [hI.2.2.2, show k6 - s.1 6 = 4 by omega]; rfl) | (rw [hI.2.2.2, hI.1, hI.2.2.1, jb8_jb8, show k6 + 1 - s.1 6 = k6 - s.1 6 + 1 by omega]; exact fourP_s (by omega) (by omega) rfl) | (rw [show s.1 6 - s.1 6 = 0 by omega]; exact (fourP_0 _ _ _).symm) | grind [upI])
theorem vX3_four_3 (s : MS) (a1 : Int) (hp : 0 ≤ (s.1 6) ∧ (s.1 6) + 4 ≤ 800) (x1 : Int) (x2 : Int) (f4 : Int → Int) (k6 : Int) (hI : x1 = a1 ∧ (0 ≤ k6 - s.1 6 ∧ k6 - s.1 6 ≤ 4) ∧ x2 = 24 - 8 * (k6 - s.1 6) ∧ f4 = fourP (s.2 4) (s.1 6) a1 (k6 - s.1 6)) (c_1 : ¬ x2 < 0) : (0 ≤ k6 ∧ k6 < 800) := by
  (try unfold lex3)
  (try simp only [bI_0, bI_n, Classical.not_not] at *)
  (try simp (disch := omega) only [i32_id] at *)
  first | done | omega | ((repeat' (with_reducible apply And.intro)) <;> first | assumption | rfl | omega | (rw [hI.2.2.2, show k6 - s.1 6 = 4 by omega]; rfl) | (rw [hI.2.2.2, hI.1, hI.2.2.1, jb8_jb8, show k6 + 1 - s.1 6 = k6 - s.1 6 + 1 by omega]; exact fourP_s (by omega) (by omega) rfl) | (rw [show s.1 6 - s.1 6 = 0 by omega]; exact (fourP_0 _ _ _).symm) | grind [upI])
theorem vX3_four_4 (s : MS) (a1 : Int) (hp : 0 ≤ (s.1 6) ∧ (s.1 6) + 4 ≤ 800) (x1 : Int) (x2 : Int) (f4 : Int → Int) (k6 : Int) (hI : x1 = a1 ∧ (0 ≤ k6 - s.1 6 ∧ k6 - s.1 6 ≤ 4) ∧ x2 = 24 - 8 * (k6 - s.1 6) ∧ f4 = fourP (s.2 4) (s.1 6) a1 (k6 - s.1 6)) (c_1 : ¬ x2 < 0) (o_2 : (0 ≤ k6 ∧ k6 < 800)) : x1 = a1 ∧ (0 ≤ (i32 (k6 + 1)) - s.1 6 ∧ (i32 (k6 + 1)) - s.1 6 ≤ 4) ∧ (i32 (x2 + (-8))) = 24 - 8 * ((i32 (k6 + 1)) - s.1 6) ∧ (upI f4 k6 (jb8 (jb8 (jshr x1 x2)))) = fourP (s.2 4) (s.1 6) a1 ((i32 (k6 + 1)) - s.1 6) := by
  (try unfold lex3)
  (try simp only [bI_0, bI_n, Classical.not_not] at *)
  (try simp (disch := omega) only [i32_id] at *)
  first | done | omega | ((repeat' (with_reducible apply And.intro)) <;> first | assumption | rfl | omega | (rw [hI.2.2.2, show k6 - s.1 6 = 4 by omega]; rfl) | (rw [hI.2.2.2, hI.1, hI.2.2.1, jb8_jb8, show k6 + 1 - s.1 6 = k6 - s.1 6 + 1 by omega]; exact fourP_s (by omega) (by omega) rfl) | (rw [show s.1 6 - s.1 6 = 0 by omega]; exact (fourP_0 _ _ _).symm) | grind [upI])
theorem vX3_four_5 (s : MS) (a1 : Int) (hp : 0 ≤ (s.1 6) ∧ (s.1 6) + 4 ≤ 800) (x1 : Int) (x2 : Int) (f4 : Int → Int) (k6 : Int) (hI : x1 = a1 ∧ (0 ≤ k6 - s.1 6 ∧ k6 - s.1 6 ≤ 4) ∧ x2 = 24 - 8 * (k6 - s.1 6) ∧ f4 = fourP (s.2 4) (s.1 6) a1 (k6 - s.1 6)) (c_1 : ¬ x2 < 0) (o_2 : (0 ≤ k6 ∧ k6 < 800)) : lex3 0 0 (((i32 (x2 + (-8))) + 8).toNat) 0 0 ((x2 + 8).toNat) := by
  (try unfold lex3)
  (try simp only [bI_0, bI_n, Classical.not_not] at *)
  (try simp (disch := omega) only [i32_id] at *)
  first | done | omega | ((repeat' (with_reducible apply And.intro)) <;> first | assumption | rfl | omega | (rw [hI.2.2.2, show k6 - s.1 6 = 4 by omega]; rfl) | (rw [hI.2.2.2, hI.1, hI.2.2.1, jb8_jb8, show k6 + 1 - s.1 6 = k6 - s.1 6 + 1 by omega]; exact fourP_s (by omega) (by omega) rfl) | (rw [show s.1 6 - s.1 6 = 0 by omega]; exact (fourP_0 _ _ _).symm) | grind [upI])
theorem vX3_four_6 (s : MS) (a1 : Int) (hp : 0 ≤ (s.1 6) ∧ (s.1 6) + 4 ≤ 800) : a1 = a1 ∧ (0 ≤ (s.1 6) - s.1 6 ∧ (s.1 6) - s.1 6 ≤ 4) ∧ (24 : Int) = 24 - 8 * ((s.1 6) - s.1 6) ∧ (s.2 4) = fourP (s.2 4) (s.1 6) a1 ((s.1 6) - s.1 6) := by
  (try unfold lex3)
  (try simp only [bI_0, bI_n, Classical.not_not] at *)
  (try simp (disch := omega) only [i32_id] at *)
  first | done | omega | ((repeat' (with_reducible apply And.intro)) <;> first | assumption | rfl | omega | (rw [hI.2.2.2, show k6 - s.1 6 = 4 by omega]; rfl) | (rw [hI.2.2.2, hI.1, hI.2.2.1, jb8_jb8, show k6 + 1 - s.1 6 = k6 - s.1 6 + 1 by omega]; exact fourP_s (by omega) (by omega) rfl) | (rw [show s.1 6 - s.1 6 = 0 by omega]; exact (fourP_0 _ _ _).symm) | grind [upI])
theorem allX3_four (b : AH) (s : MS) (a1 : Int) (hp : 0 ≤ (s.1 6) ∧ (s.1 6) + 4 ≤ 800) : ∀ m1 m2 m3 : Nat, (∀ (x1 : Int) (x2 : Int) (f4 : Int → Int) (k6 : Int), m1 = 0 → m2 = 0 → m3 = ((x2 + 8).toNat) → (x1 = a1 ∧ (0 ≤ k6 - s.1 6 ∧ k6 - s.1 6 ≤ 4) ∧ x2 = 24 - 8 * (k6 - s.1 6) ∧ f4 = fourP (s.2 4) (s.1 6) a1 (k6 - s.1 6)) → HX3_four_3 (QX3_four s a1) b s x1 x2 f4 k6) := by
  refine lex3_ind ?_
  intro m1 m2 m3 ih
  rintro x1 x2 f4 k6 rfl rfl rfl hI
  refine bX3_four_3 b s x1 x2 f4 k6 ?_
  refine ⟨fun c_1 => ?_, fun c_1 => ?_⟩
  · exact ⟨rfl, (sS_c (sA_c rfl (vX3_four_1 s a1 hp x1 x2 f4 k6 hI c_1)) (vX3_four_2 s a1 hp x1 x2 f4 k6 hI c_1))⟩
  · have o_2 : (0 ≤ k6 ∧ k6 < 800) := (vX3_four_3 s a1 hp x1 x2 f4 k6 hI c_1)
    refine ⟨o_2, ?_⟩
    exact (ih _ _ _ (vX3_four_5 s a1 hp x1 x2 f4 k6 hI c_1 o_2)) x1 (i32 (x2 + (-8))) (upI f4 k6 (jb8 (jb8 (jshr x1 x2)))) (i32 (k6 + 1)) rfl rfl rfl (vX3_four_4 s a1 hp x1 x2 f4 k6 hI c_1 o_2)
theorem ctX3_four (b : AH) (s : MS) (a1 : Int) (hp : 0 ≤ (s.1 6) ∧ (s.1 6) + 4 ≤ 800) : MC mX3_four 1 b s [vI a1] (QX3_four s a1) := by
  refine MC.of (by decide) rfl (Nat.le_of_ble_eq_true rfl) (JW.steq (s2 := sS (sA s 4 (s.2 4)) 6 (s.1 6)) (by simp only [sA_id, sS_id]) ?_)
  refine bX3_four_0 b s a1 (s.2 4) (s.1 6) ?_
  exact (allX3_four b s a1 hp _ _ _) a1 24 (s.2 4) (s.1 6) rfl rfl rfl (vX3_four_6 s a1 hp)
def HX3_feed_0 (Q : Option AV → MS → Prop) (b : AH) (s : MS) (x1 : Int) (x2 : Int) (x3 : Int) (x4 : Int) (x5 : Int) (f4 : Int → Int) (k0 : Int) (k6 : Int) : Prop := MW mX3_feed 2 Q b 0 [(0, vR 351), (1, vI x1), (2, vI x2), (3, vI x3), (4, vI x4), (5, vI x5)] [] (sS (sS (sA s 4 f4) 0 k0) 6 k6)
theorem bX3_feed_0 {Q : Option AV → MS → Prop} (b : AH) (s : MS) (x1 : Int) (x2 : Int) (x3 : Int) (x4 : Int) (x5 : Int) (f4 : Int → Int) (k0 : Int) (k6 : Int) (K : ((i32 (k6 + 20)) ≤ 800 → (0 ≤ k6 ∧ k6 + 4 ≤ 800) ∧ ((0 ≤ (k6 + 4) ∧ (k6 + 4) + 4 ≤ 800) ∧ ((0 ≤ ((k6 + 4) + 4) ∧ ((k6 + 4) + 4) + 4 ≤ 800) ∧ ((0 ≤ (((k6 + 4) + 4) + 4) ∧ (((k6 + 4) + 4) + 4) + 4 ≤ 800) ∧ ((0 ≤ ((((k6 + 4) + 4) + 4) + 4) ∧ ((((k6 + 4) + 4) + 4) + 4) + 4 ≤ 800) ∧ (Q (some (vI (((((k6 + 4) + 4) + 4) + 4) + 4))) (sS (sS (sA s 4 (fourT (fourT (fourT (fourT (fourT f4 k6 x1) (k6 + 4) x2) ((k6 + 4) + 4) x3) (((k6 + 4) + 4) + 4) x4) ((((k6 + 4) + 4) + 4) + 4) x5)) 0 0) 6 (((((k6 + 4) + 4) + 4) + 4) + 4)))))))) ∧ (¬ (i32 (k6 + 20)) ≤ 800 → Q (some (vI (-1))) (sS (sS (sA s 4 f4) 0 0) 6 k6))) : HX3_feed_0 Q b s x1 x2 x3 x4 x5 f4 k0 k6 := by
  refine JW.aload_n dX3_feed_0 rfl ?_
  refine JW.iconst dX3_feed_1 rfl ?_
  refine JW.mputI dX3_feed_2 (pX3_77 _) rfl ?_
  refine JW.steq (s2 := sS (sS (sA s 4 f4) 0 0) 6 k6) (by simp only [sA_A, sS_S, sA_S, sA_lt, sS_lt, Nat.reduceLT, id_eq] <;> rfl) ?_
  refine JW.aload_n dX3_feed_5 rfl ?_
  refine JW.mget (v := vI k6) dX3_feed_6 fX3_94 rfl ?_
  refine JW.bipush dX3_feed_9 rfl ?_
  refine JW.iadd dX3_feed_11 ?_
  refine JW.sipush dX3_feed_12 rfl ?_
  refine JW.icmp_le (tgt := 20) dX3_feed_15 rfl (fun c_1 => ?_) (fun c_1 => ?_)
  · have K := K.1 c_1
    refine JW.aload_n dX3_feed_20 rfl ?_
    refine JW.iload_n dX3_feed_21 rfl ?_
    obtain ⟨o_2, K⟩ := K
    refine JW.mcall (As := [vI x1]) dX3_feed_22 vX3_four rfl q1650 (ctX3_four b (sS (sS (sA s 4 f4) 0 0) 6 k6) x1 o_2) (Nat.le_of_ble_eq_true rfl) rfl (Nat.le_of_ble_eq_true rfl) ?_
    rintro _ _ ⟨rfl, rfl⟩
    refine JW.steq (s2 := sS (sS (sA s 4 (fourT f4 k6 x1)) 0 0) 6 (k6 + 4)) (by simp only [sA_A, sS_S, sA_S, sA_lt, sS_lt, Nat.reduceLT, id_eq] <;> rfl) ?_
    refine JW.aload_n dX3_feed_25 rfl ?_
    refine JW.iload_n dX3_feed_26 rfl ?_
    obtain ⟨o_4, K⟩ := K
    refine JW.mcall (As := [vI x2]) dX3_feed_27 vX3_four rfl q1650 (ctX3_four b (sS (sS (sA s 4 (fourT f4 k6 x1)) 0 0) 6 (k6 + 4)) x2 o_4) (Nat.le_of_ble_eq_true rfl) rfl (Nat.le_of_ble_eq_true rfl) ?_
    rintro _ _ ⟨rfl, rfl⟩
    refine JW.steq (s2 := sS (sS (sA s 4 (fourT (fourT f4 k6 x1) (k6 + 4) x2)) 0 0) 6 ((k6 + 4) + 4)) (by simp only [sA_A, sS_S, sA_S, sA_lt, sS_lt, Nat.reduceLT, id_eq] <;> rfl) ?_
    refine JW.aload_n dX3_feed_30 rfl ?_
    refine JW.iload_n dX3_feed_31 rfl ?_
    obtain ⟨o_6, K⟩ := K
    refine JW.mcall (As := [vI x3]) dX3_feed_32 vX3_four rfl q1650 (ctX3_four b (sS (sS (sA s 4 (fourT (fourT f4 k6 x1) (k6 + 4) x2)) 0 0) 6 ((k6 + 4) + 4)) x3 o_6) (Nat.le_of_ble_eq_true rfl) rfl (Nat.le_of_ble_eq_true rfl) ?_
    rintro _ _ ⟨rfl, rfl⟩
    refine JW.steq (s2 := sS (sS (sA s 4 (fourT (fourT (fourT f4 k6 x1) (k6 + 4) x2) ((k6 + 4) + 4) x3)) 0 0) 6 (((k6 + 4) + 4) + 4)) (by simp only [sA_A, sS_S, sA_S, sA_lt, sS_lt, Nat.reduceLT, id_eq] <;> rfl) ?_
    refine JW.aload_n dX3_feed_35 rfl ?_
    refine JW.iload dX3_feed_36 rfl ?_
    obtain ⟨o_8, K⟩ := K
    refine JW.mcall (As := [vI x4]) dX3_feed_38 vX3_four rfl q1650 (ctX3_four b (sS (sS (sA s 4 (fourT (fourT (fourT f4 k6 x1) (k6 + 4) x2) ((k6 + 4) + 4) x3)) 0 0) 6 (((k6 + 4) + 4) + 4)) x4 o_8) (Nat.le_of_ble_eq_true rfl) rfl (Nat.le_of_ble_eq_true rfl) ?_
    rintro _ _ ⟨rfl, rfl⟩
    refine JW.steq (s2 := sS (sS (sA s 4 (fourT (fourT (fourT (fourT f4 k6 x1) (k6 + 4) x2) ((k6 + 4) + 4) x3) (((k6 + 4) + 4) + 4) x4)) 0 0) 6 ((((k6 + 4) + 4) + 4) + 4)) (by simp only [sA_A, sS_S, sA_S, sA_lt, sS_lt, Nat.reduceLT, id_eq] <;> rfl) ?_
    refine JW.aload_n dX3_feed_41 rfl ?_
    refine JW.iload dX3_feed_42 rfl ?_
    obtain ⟨o_10, K⟩ := K
    refine JW.mcall (As := [vI x5]) dX3_feed_44 vX3_four rfl q1650 (ctX3_four b (sS (sS (sA s 4 (fourT (fourT (fourT (fourT f4 k6 x1) (k6 + 4) x2) ((k6 + 4) + 4) x3) (((k6 + 4) + 4) + 4) x4)) 0 0) 6 ((((k6 + 4) + 4) + 4) + 4)) x5 o_10) (Nat.le_of_ble_eq_true rfl) rfl (Nat.le_of_ble_eq_true rfl) ?_
    rintro _ _ ⟨rfl, rfl⟩
    refine JW.steq (s2 := sS (sS (sA s 4 (fourT (fourT (fourT (fourT (fourT f4 k6 x1) (k6 + 4) x2) ((k6 + 4) + 4) x3) (((k6 + 4) + 4) + 4) x4) ((((k6 + 4) + 4) + 4) + 4) x5)) 0 0) 6 (((((k6 + 4) + 4) + 4) + 4) + 4)) (by simp only [sA_A, sS_S, sA_S, sA_lt, sS_lt, Nat.reduceLT, id_eq] <;> rfl) ?_
    refine JW.aload_n dX3_feed_47 rfl ?_
    refine JW.mget (v := vI (((((k6 + 4) + 4) + 4) + 4) + 4)) dX3_feed_48 fX3_94 rfl ?_
    exact JW.ireturn dX3_feed_51 rfl rfl ⟨_, rfl, K⟩
  · have K := K.2 c_1
    refine JW.iconst dX3_feed_18 rfl ?_
    exact JW.ireturn dX3_feed_19 rfl rfl ⟨_, rfl, K⟩
def QX3_feed (s : MS) (a1 : Int) (a2 : Int) (a3 : Int) (a4 : Int) (a5 : Int) : Option AV → MS → Prop := fun v s' => v = some (vI (if (s.1 6) + 20 > 800 then -1 else (s.1 6) + 20)) ∧ s' = sS (sS (sA s 4 (feedT (s.2 4) (s.1 6) a1 a2 a3 a4 a5)) 0 (0)) 6 (if (s.1 6) + 20 > 800 then (s.1 6) else (s.1 6) + 20)
theorem vX3_feed_1 (s : MS) (a1 : Int) (a2 : Int) (a3 : Int) (a4 : Int) (a5 : Int) (hp : 0 ≤ (s.1 6) ∧ (s.1 6) ≤ 800) (c_1 : (i32 ((s.1 6) + 20)) ≤ 800) : (0 ≤ (s.1 6) ∧ (s.1 6) + 4 ≤ 800) := by
  (try unfold lex3)
  (try simp only [bI_0, bI_n, Classical.not_not] at *)
  (try simp (disch := omega) only [i32_id] at *)
  first | done | omega | ((repeat' (with_reducible apply And.intro)) <;> first | assumption | rfl | omega | (unfold feedT; rw [if_pos (by omega)]) | (unfold feedT; rw [if_neg (by omega), show s.1 6 + 8 = s.1 6 + 4 + 4 by omega, show s.1 6 + 12 = s.1 6 + 4 + 4 + 4 by omega, show s.1 6 + 16 = s.1 6 + 4 + 4 + 4 + 4 by omega]) | (rw [if_pos (by omega)]) | (rw [if_neg (by omega)]; omega) | grind [upI])
theorem vX3_feed_2 (s : MS) (a1 : Int) (a2 : Int) (a3 : Int) (a4 : Int) (a5 : Int) (hp : 0 ≤ (s.1 6) ∧ (s.1 6) ≤ 800) (c_1 : (i32 ((s.1 6) + 20)) ≤ 800) (o_2 : (0 ≤ (s.1 6) ∧ (s.1 6) + 4 ≤ 800)) : (0 ≤ ((s.1 6) + 4) ∧ ((s.1 6) + 4) + 4 ≤ 800) := by
  (try unfold lex3)
  (try simp only [bI_0, bI_n, Classical.not_not] at *)
  (try simp (disch := omega) only [i32_id] at *)
  first | done | omega | ((repeat' (with_reducible apply And.intro)) <;> first | assumption | rfl | omega | (unfold feedT; rw [if_pos (by omega)]) | (unfold feedT; rw [if_neg (by omega), show s.1 6 + 8 = s.1 6 + 4 + 4 by omega, show s.1 6 + 12 = s.1 6 + 4 + 4 + 4 by omega, show s.1 6 + 16 = s.1 6 + 4 + 4 + 4 + 4 by omega]) | (rw [if_pos (by omega)]) | (rw [if_neg (by omega)]; omega) | grind [upI])
theorem vX3_feed_3 (s : MS) (a1 : Int) (a2 : Int) (a3 : Int) (a4 : Int) (a5 : Int) (hp : 0 ≤ (s.1 6) ∧ (s.1 6) ≤ 800) (c_1 : (i32 ((s.1 6) + 20)) ≤ 800) (o_2 : (0 ≤ (s.1 6) ∧ (s.1 6) + 4 ≤ 800)) (o_4 : (0 ≤ ((s.1 6) + 4) ∧ ((s.1 6) + 4) + 4 ≤ 800)) : (0 ≤ (((s.1 6) + 4) + 4) ∧ (((s.1 6) + 4) + 4) + 4 ≤ 800) := by
  (try unfold lex3)
  (try simp only [bI_0, bI_n, Classical.not_not] at *)
  (try simp (disch := omega) only [i32_id] at *)
  first | done | omega | ((repeat' (with_reducible apply And.intro)) <;> first | assumption | rfl | omega | (unfold feedT; rw [if_pos (by omega)]) | (unfold feedT; rw [if_neg (by omega), show s.1 6 + 8 = s.1 6 + 4 + 4 by omega, show s.1 6 + 12 = s.1 6 + 4 + 4 + 4 by omega, show s.1 6 + 16 = s.1 6 + 4 + 4 + 4 + 4 by omega]) | (rw [if_pos (by omega)]) | (rw [if_neg (by omega)]; omega) | grind [upI])
theorem vX3_feed_4 (s : MS) (a1 : Int) (a2 : Int) (a3 : Int) (a4 : Int) (a5 : Int) (hp : 0 ≤ (s.1 6) ∧ (s.1 6) ≤ 800) (c_1 : (i32 ((s.1 6) + 20)) ≤ 800) (o_2 : (0 ≤ (s.1 6) ∧ (s.1 6) + 4 ≤ 800)) (o_4 : (0 ≤ ((s.1 6) + 4) ∧ ((s.1 6) + 4) + 4 ≤ 800)) (o_6 : (0 ≤ (((s.1 6) + 4) + 4) ∧ (((s.1 6) + 4) + 4) + 4 ≤ 800)) : (0 ≤ ((((s.1 6) + 4) + 4) + 4) ∧ ((((s.1 6) + 4) + 4) + 4) + 4 ≤ 800) := by
  (try unfold lex3)
  (try simp only [bI_0, bI_n, Classical.not_not] at *)
  (try simp (disch := omega) only [i32_id] at *)
  first | done | omega | ((repeat' (with_reducible apply And.intro)) <;> first | assumption | rfl | omega | (unfold feedT; rw [if_pos (by omega)]) | (unfold feedT; rw [if_neg (by omega), show s.1 6 + 8 = s.1 6 + 4 + 4 by omega, show s.1 6 + 12 = s.1 6 + 4 + 4 + 4 by omega, show s.1 6 + 16 = s.1 6 + 4 + 4 + 4 + 4 by omega]) | (rw [if_pos (by omega)]) | (rw [if_neg (by omega)]; omega) | grind [upI])
theorem vX3_feed_5 (s : MS) (a1 : Int) (a2 : Int) (a3 : Int) (a4 : Int) (a5 : Int) (hp : 0 ≤ (s.1 6) ∧ (s.1 6) ≤ 800) (c_1 : (i32 ((s.1 6) + 20)) ≤ 800) (o_2 : (0 ≤ (s.1 6) ∧ (s.1 6) + 4 ≤ 800)) (o_4 : (0 ≤ ((s.1 6) + 4) ∧ ((s.1 6) + 4) + 4 ≤ 800)) (o_6 : (0 ≤ (((s.1 6) + 4) + 4) ∧ (((s.1 6) + 4) + 4) + 4 ≤ 800)) (o_8 : (0 ≤ ((((s.1 6) + 4) + 4) + 4) ∧ ((((s.1 6) + 4) + 4) + 4) + 4 ≤ 800)) : (0 ≤ (((((s.1 6) + 4) + 4) + 4) + 4) ∧ (((((s.1 6) + 4) + 4) + 4) + 4) + 4 ≤ 800) := by
  (try unfold lex3)
  (try simp only [bI_0, bI_n, Classical.not_not] at *)
  (try simp (disch := omega) only [i32_id] at *)
  first | done | omega | ((repeat' (with_reducible apply And.intro)) <;> first | assumption | rfl | omega | (unfold feedT; rw [if_pos (by omega)]) | (unfold feedT; rw [if_neg (by omega), show s.1 6 + 8 = s.1 6 + 4 + 4 by omega, show s.1 6 + 12 = s.1 6 + 4 + 4 + 4 by omega, show s.1 6 + 16 = s.1 6 + 4 + 4 + 4 + 4 by omega]) | (rw [if_pos (by omega)]) | (rw [if_neg (by omega)]; omega) | grind [upI])
theorem vX3_feed_6 (s : MS) (a1 : Int) (a2 : Int) (a3 : Int) (a4 : Int) (a5 : Int) (hp : 0 ≤ (s.1 6) ∧ (s.1 6) ≤ 800) (c_1 : (i32 ((s.1 6) + 20)) ≤ 800) (o_2 : (0 ≤ (s.1 6) ∧ (s.1 6) + 4 ≤ 800)) (o_4 : (0 ≤ ((s.1 6) + 4) ∧ ((s.1 6) + 4) + 4 ≤ 800)) (o_6 : (0 ≤ (((s.1 6) + 4) + 4) ∧ (((s.1 6) + 4) + 4) + 4 ≤ 800)) (o_8 : (0 ≤ ((((s.1 6) + 4) + 4) + 4) ∧ ((((s.1 6) + 4) + 4) + 4) + 4 ≤ 800)) (o_10 : (0 ≤ (((((s.1 6) + 4) + 4) + 4) + 4) ∧ (((((s.1 6) + 4) + 4) + 4) + 4) + 4 ≤ 800)) : (fourT (fourT (fourT (fourT (fourT (s.2 4) (s.1 6) a1) ((s.1 6) + 4) a2) (((s.1 6) + 4) + 4) a3) ((((s.1 6) + 4) + 4) + 4) a4) (((((s.1 6) + 4) + 4) + 4) + 4) a5) = (feedT (s.2 4) (s.1 6) a1 a2 a3 a4 a5) := by
  (try unfold lex3)
  (try simp only [bI_0, bI_n, Classical.not_not] at *)
  (try simp (disch := omega) only [i32_id] at *)
  first | done | omega | ((repeat' (with_reducible apply And.intro)) <;> first | assumption | rfl | omega | (unfold feedT; rw [if_pos (by omega)]) | (unfold feedT; rw [if_neg (by omega), show s.1 6 + 8 = s.1 6 + 4 + 4 by omega, show s.1 6 + 12 = s.1 6 + 4 + 4 + 4 by omega, show s.1 6 + 16 = s.1 6 + 4 + 4 + 4 + 4 by omega]) | (rw [if_pos (by omega)]) | (rw [if_neg (by omega)]; omega) | grind [upI])
theorem vX3_feed_7 (s : MS) (a1 : Int) (a2 : Int) (a3 : Int) (a4 : Int) (a5 : Int) (hp : 0 ≤ (s.1 6) ∧ (s.1 6) ≤ 800) (c_1 : (i32 ((s.1 6) + 20)) ≤ 800) (o_2 : (0 ≤ (s.1 6) ∧ (s.1 6) + 4 ≤ 800)) (o_4 : (0 ≤ ((s.1 6) + 4) ∧ ((s.1 6) + 4) + 4 ≤ 800)) (o_6 : (0 ≤ (((s.1 6) + 4) + 4) ∧ (((s.1 6) + 4) + 4) + 4 ≤ 800)) (o_8 : (0 ≤ ((((s.1 6) + 4) + 4) + 4) ∧ ((((s.1 6) + 4) + 4) + 4) + 4 ≤ 800)) (o_10 : (0 ≤ (((((s.1 6) + 4) + 4) + 4) + 4) ∧ (((((s.1 6) + 4) + 4) + 4) + 4) + 4 ≤ 800)) : ((((((s.1 6) + 4) + 4) + 4) + 4) + 4) = (if (s.1 6) + 20 > 800 then (s.1 6) else (s.1 6) + 20) := by
  (try unfold lex3)
  (try simp only [bI_0, bI_n, Classical.not_not] at *)
  (try simp (disch := omega) only [i32_id] at *)
  first | done | omega | ((repeat' (with_reducible apply And.intro)) <;> first | assumption | rfl | omega | (unfold feedT; rw [if_pos (by omega)]) | (unfold feedT; rw [if_neg (by omega), show s.1 6 + 8 = s.1 6 + 4 + 4 by omega, show s.1 6 + 12 = s.1 6 + 4 + 4 + 4 by omega, show s.1 6 + 16 = s.1 6 + 4 + 4 + 4 + 4 by omega]) | (rw [if_pos (by omega)]) | (rw [if_neg (by omega)]; omega) | grind [upI])
theorem vX3_feed_8 (s : MS) (a1 : Int) (a2 : Int) (a3 : Int) (a4 : Int) (a5 : Int) (hp : 0 ≤ (s.1 6) ∧ (s.1 6) ≤ 800) (c_1 : (i32 ((s.1 6) + 20)) ≤ 800) (o_2 : (0 ≤ (s.1 6) ∧ (s.1 6) + 4 ≤ 800)) (o_4 : (0 ≤ ((s.1 6) + 4) ∧ ((s.1 6) + 4) + 4 ≤ 800)) (o_6 : (0 ≤ (((s.1 6) + 4) + 4) ∧ (((s.1 6) + 4) + 4) + 4 ≤ 800)) (o_8 : (0 ≤ ((((s.1 6) + 4) + 4) + 4) ∧ ((((s.1 6) + 4) + 4) + 4) + 4 ≤ 800)) (o_10 : (0 ≤ (((((s.1 6) + 4) + 4) + 4) + 4) ∧ (((((s.1 6) + 4) + 4) + 4) + 4) + 4 ≤ 800)) : ((((((s.1 6) + 4) + 4) + 4) + 4) + 4) = (if (s.1 6) + 20 > 800 then -1 else (s.1 6) + 20) := by
  (try unfold lex3)
  (try simp only [bI_0, bI_n, Classical.not_not] at *)
  (try simp (disch := omega) only [i32_id] at *)
  first | done | omega | ((repeat' (with_reducible apply And.intro)) <;> first | assumption | rfl | omega | (unfold feedT; rw [if_pos (by omega)]) | (unfold feedT; rw [if_neg (by omega), show s.1 6 + 8 = s.1 6 + 4 + 4 by omega, show s.1 6 + 12 = s.1 6 + 4 + 4 + 4 by omega, show s.1 6 + 16 = s.1 6 + 4 + 4 + 4 + 4 by omega]) | (rw [if_pos (by omega)]) | (rw [if_neg (by omega)]; omega) | grind [upI])
theorem vX3_feed_9 (s : MS) (a1 : Int) (a2 : Int) (a3 : Int) (a4 : Int) (a5 : Int) (hp : 0 ≤ (s.1 6) ∧ (s.1 6) ≤ 800) (c_1 : ¬ (i32 ((s.1 6) + 20)) ≤ 800) : (s.2 4) = (feedT (s.2 4) (s.1 6) a1 a2 a3 a4 a5) := by
  (try unfold lex3)
  (try simp only [bI_0, bI_n, Classical.not_not] at *)
  (try simp (disch := omega) only [i32_id] at *)
  first | done | omega | ((repeat' (with_reducible apply And.intro)) <;> first | assumption | rfl | omega | (unfold feedT; rw [if_pos (by omega)]) | (unfold feedT; rw [if_neg (by omega), show s.1 6 + 8 = s.1 6 + 4 + 4 by omega, show s.1 6 + 12 = s.1 6 + 4 + 4 + 4 by omega, show s.1 6 + 16 = s.1 6 + 4 + 4 + 4 + 4 by omega]) | (rw [if_pos (by omega)]) | (rw [if_neg (by omega)]; omega) | grind [upI])
theorem vX3_feed_10 (s : MS) (a1 : Int) (a2 : Int) (a3 : Int) (a4 : Int) (a5 : Int) (hp : 0 ≤ (s.1 6) ∧ (s.1 6) ≤ 800) (c_1 : ¬ (i32 ((s.1 6) + 20)) ≤ 800) : (s.1 6) = (if (s.1 6) + 20 > 800 then (s.1 6) else (s.1 6) + 20) := by
  (try unfold lex3)
  (try simp only [bI_0, bI_n, Classical.not_not] at *)
  (try simp (disch := omega) only [i32_id] at *)
  first | done | omega | ((repeat' (with_reducible apply And.intro)) <;> first | assumption | rfl | omega | (unfold feedT; rw [if_pos (by omega)]) | (unfold feedT; rw [if_neg (by omega), show s.1 6 + 8 = s.1 6 + 4 + 4 by omega, show s.1 6 + 12 = s.1 6 + 4 + 4 + 4 by omega, show s.1 6 + 16 = s.1 6 + 4 + 4 + 4 + 4 by omega]) | (rw [if_pos (by omega)]) | (rw [if_neg (by omega)]; omega) | grind [upI])
theorem vX3_feed_11 (s : MS) (a1 : Int) (a2 : Int) (a3 : Int) (a4 : Int) (a5 : Int) (hp : 0 ≤ (s.1 6) ∧ (s.1 6) ≤ 800) (c_1 : ¬ (i32 ((s.1 6) + 20)) ≤ 800) : (-1) = (if (s.1 6) + 20 > 800 then -1 else (s.1 6) + 20) := by
  (try unfold lex3)
  (try simp only [bI_0, bI_n, Classical.not_not] at *)
  (try simp (disch := omega) only [i32_id] at *)
  first | done | omega | ((repeat' (with_reducible apply And.intro)) <;> first | assumption | rfl | omega | (unfold feedT; rw [if_pos (by omega)]) | (unfold feedT; rw [if_neg (by omega), show s.1 6 + 8 = s.1 6 + 4 + 4 by omega, show s.1 6 + 12 = s.1 6 + 4 + 4 + 4 by omega, show s.1 6 + 16 = s.1 6 + 4 + 4 + 4 + 4 by omega]) | (rw [if_pos (by omega)]) | (rw [if_neg (by omega)]; omega) | grind [upI])
theorem ctX3_feed (b : AH) (s : MS) (a1 : Int) (a2 : Int) (a3 : Int) (a4 : Int) (a5 : Int) (hp : 0 ≤ (s.1 6) ∧ (s.1 6) ≤ 800) : MC mX3_feed 2 b s [vI a1, vI a2, vI a3, vI a4, vI a5] (QX3_feed s a1 a2 a3 a4 a5) := by
  refine MC.of (by decide) rfl (Nat.le_of_ble_eq_true rfl) (JW.steq (s2 := sS (sS (sA s 4 (s.2 4)) 0 (s.1 0)) 6 (s.1 6)) (by simp only [sA_id, sS_id]) ?_)
  refine bX3_feed_0 b s a1 a2 a3 a4 a5 (s.2 4) (s.1 0) (s.1 6) ?_
  refine ⟨fun c_1 => ?_, fun c_1 => ?_⟩
  · have o_2 : (0 ≤ (s.1 6) ∧ (s.1 6) + 4 ≤ 800) := (vX3_feed_1 s a1 a2 a3 a4 a5 hp c_1)
    refine ⟨o_2, ?_⟩
    have o_4 : (0 ≤ ((s.1 6) + 4) ∧ ((s.1 6) + 4) + 4 ≤ 800) := (vX3_feed_2 s a1 a2 a3 a4 a5 hp c_1 o_2)
    refine ⟨o_4, ?_⟩
    have o_6 : (0 ≤ (((s.1 6) + 4) + 4) ∧ (((s.1 6) + 4) + 4) + 4 ≤ 800) := (vX3_feed_3 s a1 a2 a3 a4 a5 hp c_1 o_2 o_4)
    refine ⟨o_6, ?_⟩
    have o_8 : (0 ≤ ((((s.1 6) + 4) + 4) + 4) ∧ ((((s.1 6) + 4) + 4) + 4) + 4 ≤ 800) := (vX3_feed_4 s a1 a2 a3 a4 a5 hp c_1 o_2 o_4 o_6)
    refine ⟨o_8, ?_⟩
    have o_10 : (0 ≤ (((((s.1 6) + 4) + 4) + 4) + 4) ∧ (((((s.1 6) + 4) + 4) + 4) + 4) + 4 ≤ 800) := (vX3_feed_5 s a1 a2 a3 a4 a5 hp c_1 o_2 o_4 o_6 o_8)
    refine ⟨o_10, ?_⟩
    exact ⟨(rI_c (vX3_feed_8 s a1 a2 a3 a4 a5 hp c_1 o_2 o_4 o_6 o_8 o_10)), (sS_c (sS_c (sA_c rfl (vX3_feed_6 s a1 a2 a3 a4 a5 hp c_1 o_2 o_4 o_6 o_8 o_10)) rfl) (vX3_feed_7 s a1 a2 a3 a4 a5 hp c_1 o_2 o_4 o_6 o_8 o_10))⟩
  · exact ⟨(rI_c (vX3_feed_11 s a1 a2 a3 a4 a5 hp c_1)), (sS_c (sS_c (sA_c rfl (vX3_feed_9 s a1 a2 a3 a4 a5 hp c_1)) rfl) (vX3_feed_10 s a1 a2 a3 a4 a5 hp c_1))⟩
def HX3_end_0 (Q : Option AV → MS → Prop) (b : AH) (s : MS) (x1 : Int) (k0 : Int) (k6 : Int) : Prop := MW mX3_end 2 Q b 0 [(0, vR 351), (1, vI x1)] [] (sS (sS s 0 k0) 6 k6)
theorem bX3_end_0 {Q : Option AV → MS → Prop} (b : AH) (s : MS) (x1 : Int) (k0 : Int) (k6 : Int) (K : (¬ (bI ((0 : Int) ≤ x1 ∧ x1 ≤ k6)) = 0 → Q (some (vI x1)) (sS (sS s 0 0) 6 x1)) ∧ ((bI ((0 : Int) ≤ x1 ∧ x1 ≤ k6)) = 0 → Q (some (vI (-1))) (sS (sS s 0 0) 6 k6))) : HX3_end_0 Q b s x1 k0 k6 := by
  refine JW.aload_n dX3_end_0 rfl ?_
  refine JW.iconst dX3_end_1 rfl ?_
  refine JW.mputI dX3_end_2 (pX3_77 _) rfl ?_
  refine JW.steq (s2 := sS (sS s 0 0) 6 k6) (by simp only [sA_A, sS_S, sA_S, sA_lt, sS_lt, Nat.reduceLT, id_eq] <;> rfl) ?_
  refine JW.iload_n dX3_end_5 rfl ?_
  refine JW.i2l dX3_end_6 ?_
  refine JW.lconst (x := 0) dX3_end_7 rfl ?_
  refine JW.aload_n dX3_end_8 rfl ?_
  refine JW.mget (v := vI k6) dX3_end_9 fX3_94 rfl ?_
  refine JW.i2l dX3_end_12 ?_
  refine JW.mcallS (As := [vL x1, vL 0, vL k6]) dX3_end_13 vX3_in q1632 (ctX3_in b (sS (sS s 0 0) 6 k6) x1 0 k6) (Nat.le_of_ble_eq_true rfl) rfl (Nat.le_of_ble_eq_true rfl) ?_
  rintro _ _ ⟨rfl, eq_1⟩
  refine JW.steq (s2 := sS (sS s 0 0) 6 k6) eq_1 ?_
  refine JW.if_ne (tgt := 21) dX3_end_16 rfl (fun c_2 => ?_) (fun c_2 => ?_)
  · have K := K.1 c_2
    refine JW.aload_n dX3_end_21 rfl ?_
    refine JW.iload_n dX3_end_22 rfl ?_
    refine JW.mputI dX3_end_23 (pX3_94 _) rfl ?_
    refine JW.steq (s2 := sS (sS s 0 0) 6 x1) (by simp only [sA_A, sS_S, sA_S, sA_lt, sS_lt, Nat.reduceLT, id_eq] <;> rfl) ?_
    refine JW.iload_n dX3_end_26 rfl ?_
    exact JW.ireturn dX3_end_27 rfl rfl ⟨_, rfl, K⟩
  · have K := K.2 c_2
    refine JW.iconst dX3_end_19 rfl ?_
    exact JW.ireturn dX3_end_20 rfl rfl ⟨_, rfl, K⟩
def QX3_end (s : MS) (a1 : Int) : Option AV → MS → Prop := fun v s' => v = some (vI (if 0 ≤ a1 ∧ a1 ≤ (s.1 6) then a1 else -1)) ∧ s' = sS (sS s 0 (0)) 6 (if 0 ≤ a1 ∧ a1 ≤ (s.1 6) then a1 else (s.1 6))
theorem vX3_end_1 (s : MS) (a1 : Int) (c_2 : ¬ (bI ((0 : Int) ≤ a1 ∧ a1 ≤ (s.1 6))) = 0) : a1 = (if 0 ≤ a1 ∧ a1 ≤ (s.1 6) then a1 else (s.1 6)) := by
  (try simp only [bI_0, bI_n, Classical.not_not] at *)
  (try unfold lex3)
  (try simp only [bI_0, bI_n, Classical.not_not] at *)
  (try simp (disch := omega) only [i32_id] at *)
  first | done | omega | ((repeat' (with_reducible apply And.intro)) <;> first | assumption | rfl | omega | (rw [if_pos (by assumption)]) | (rw [if_neg (by assumption)]) | grind [upI])
theorem vX3_end_2 (s : MS) (a1 : Int) (c_2 : ¬ (bI ((0 : Int) ≤ a1 ∧ a1 ≤ (s.1 6))) = 0) : a1 = (if 0 ≤ a1 ∧ a1 ≤ (s.1 6) then a1 else -1) := by
  (try simp only [bI_0, bI_n, Classical.not_not] at *)
  (try unfold lex3)
  (try simp only [bI_0, bI_n, Classical.not_not] at *)
  (try simp (disch := omega) only [i32_id] at *)
  first | done | omega | ((repeat' (with_reducible apply And.intro)) <;> first | assumption | rfl | omega | (rw [if_pos (by assumption)]) | (rw [if_neg (by assumption)]) | grind [upI])
theorem vX3_end_3 (s : MS) (a1 : Int) (c_2 : (bI ((0 : Int) ≤ a1 ∧ a1 ≤ (s.1 6))) = 0) : (s.1 6) = (if 0 ≤ a1 ∧ a1 ≤ (s.1 6) then a1 else (s.1 6)) := by
  (try simp only [bI_0, bI_n, Classical.not_not] at *)
  (try unfold lex3)
  (try simp only [bI_0, bI_n, Classical.not_not] at *)
  (try simp (disch := omega) only [i32_id] at *)
  first | done | omega | ((repeat' (with_reducible apply And.intro)) <;> first | assumption | rfl | omega | (rw [if_pos (by assumption)]) | (rw [if_neg (by assumption)]) | grind [upI])
theorem vX3_end_4 (s : MS) (a1 : Int) (c_2 : (bI ((0 : Int) ≤ a1 ∧ a1 ≤ (s.1 6))) = 0) : (-1) = (if 0 ≤ a1 ∧ a1 ≤ (s.1 6) then a1 else -1) := by
  (try simp only [bI_0, bI_n, Classical.not_not] at *)
  (try unfold lex3)
  (try simp only [bI_0, bI_n, Classical.not_not] at *)
  (try simp (disch := omega) only [i32_id] at *)
  first | done | omega | ((repeat' (with_reducible apply And.intro)) <;> first | assumption | rfl | omega | (rw [if_pos (by assumption)]) | (rw [if_neg (by assumption)]) | grind [upI])
theorem ctX3_end (b : AH) (s : MS) (a1 : Int) : MC mX3_end 2 b s [vI a1] (QX3_end s a1) := by
  refine MC.of (by decide) rfl (Nat.le_of_ble_eq_true rfl) (JW.steq (s2 := sS (sS s 0 (s.1 0)) 6 (s.1 6)) (by simp only [sA_id, sS_id]) ?_)
  refine bX3_end_0 b s a1 (s.1 0) (s.1 6) ?_
  refine ⟨fun c_2 => ?_, fun c_2 => ?_⟩
  · exact ⟨(rI_c (vX3_end_2 s a1 c_2)), (sS_c (sS_c rfl rfl) (vX3_end_1 s a1 c_2))⟩
  · exact ⟨(rI_c (vX3_end_4 s a1 c_2)), (sS_c (sS_c rfl rfl) (vX3_end_3 s a1 c_2))⟩
def HX3_turn_0 (Q : Option AV → MS → Prop) (b : AH) (s : MS) (x1 : Int) (x2 : Int) (x3 : Int) (f7 : Int → Int) (k0 : Int) : Prop := MW mX3_turn 3 Q b 0 [(0, vR 351), (1, vI x1), (2, vI x2), (3, vI x3)] [] (sS (sA s 7 f7) 0 k0)
theorem bX3_turn_0 {Q : Option AV → MS → Prop} (b : AH) (s : MS) (x1 : Int) (x2 : Int) (x3 : Int) (f7 : Int → Int) (k0 : Int) (K : (tOK (s.2 6)) ∧ (((bI (0 ≤ x1 ∧ x1 < (s.2 6) 3)) = 0 → Q (some (vI (-2))) (sS (sA s 7 f7) 0 0)) ∧ (¬ (bI (0 ≤ x1 ∧ x1 < (s.2 6) 3)) = 0 → ((bI ((0 : Int) ≤ x2 ∧ x2 ≤ (14 : Int))) = 0 → Q (some (vI (-2))) (sS (sA s 7 f7) 0 0)) ∧ (¬ (bI ((0 : Int) ≤ x2 ∧ x2 ≤ (14 : Int))) = 0 → (¬ x2 = 14 → (x2 < 12 → (¬ (bI ((0 : Int) ≤ x3 ∧ x3 ≤ (0 : Int))) = 0 → (x2 < 12 → (0 ≤ (i32 (2 * x1)) ∧ (i32 (2 * x1)) < 120) ∧ ((¬ (f7 (i32 (2 * x1))) = x2 → (0 ≤ (i32 ((i32 (2 * x1)) + 1)) ∧ (i32 ((i32 (2 * x1)) + 1)) < 120) ∧ (Q (some (vI 1)) (sS (sA s 7 (upI (upI f7 (i32 (2 * x1)) x2) (i32 ((i32 (2 * x1)) + 1)) (-1))) 0 0))) ∧ ((f7 (i32 (2 * x1))) = x2 → (0 ≤ (i32 ((i32 (2 * x1)) + 1)) ∧ (i32 ((i32 (2 * x1)) + 1)) < 120) ∧ (((f7 (i32 ((i32 (2 * x1)) + 1))) = (-1) → Q (some (vI 0)) (sS (sA s 7 (upI (upI f7 (i32 (2 * x1)) x2) (i32 ((i32 (2 * x1)) + 1)) (-1))) 0 0)) ∧ (¬ (f7 (i32 ((i32 (2 * x1)) + 1))) = (-1) → Q (some (vI 1)) (sS (sA s 7 (upI (upI f7 (i32 (2 * x1)) x2) (i32 ((i32 (2 * x1)) + 1)) (-1))) 0 0)))))) ∧ (¬ x2 < 12 → (0 ≤ (i32 (2 * x1)) ∧ (i32 (2 * x1)) < 120) ∧ ((¬ (f7 (i32 (2 * x1))) = x2 → (0 ≤ (i32 ((i32 (2 * x1)) + 1)) ∧ (i32 ((i32 (2 * x1)) + 1)) < 120) ∧ (Q (some (vI 1)) (sS (sA s 7 (upI (upI f7 (i32 (2 * x1)) x2) (i32 ((i32 (2 * x1)) + 1)) x3)) 0 0))) ∧ ((f7 (i32 (2 * x1))) = x2 → (0 ≤ (i32 ((i32 (2 * x1)) + 1)) ∧ (i32 ((i32 (2 * x1)) + 1)) < 120) ∧ (((f7 (i32 ((i32 (2 * x1)) + 1))) = x3 → Q (some (vI 0)) (sS (sA s 7 (upI (upI f7 (i32 (2 * x1)) x2) (i32 ((i32 (2 * x1)) + 1)) x3)) 0 0)) ∧ (¬ (f7 (i32 ((i32 (2 * x1)) + 1))) = x3 → Q (some (vI 1)) (sS (sA s 7 (upI (upI f7 (i32 (2 * x1)) x2) (i32 ((i32 (2 * x1)) + 1)) x3)) 0 0))))))) ∧ ((bI ((0 : Int) ≤ x3 ∧ x3 ≤ (0 : Int))) = 0 → Q (some (vI (-2))) (sS (sA s 7 f7) 0 0))) ∧ (¬ x2 < 12 → (¬ (bI ((0 : Int) ≤ x3 ∧ x3 ≤ (99 : Int))) = 0 → (x2 < 12 → (0 ≤ (i32 (2 * x1)) ∧ (i32 (2 * x1)) < 120) ∧ ((¬ (f7 (i32 (2 * x1))) = x2 → (0 ≤ (i32 ((i32 (2 * x1)) + 1)) ∧ (i32 ((i32 (2 * x1)) + 1)) < 120) ∧ (Q (some (vI 1)) (sS (sA s 7 (upI (upI f7 (i32 (2 * x1)) x2) (i32 ((i32 (2 * x1)) + 1)) (-1))) 0 0))) ∧ ((f7 (i32 (2 * x1))) = x2 → (0 ≤ (i32 ((i32 (2 * x1)) + 1)) ∧ (i32 ((i32 (2 * x1)) + 1)) < 120) ∧ (((f7 (i32 ((i32 (2 * x1)) + 1))) = (-1) → Q (some (vI 0)) (sS (sA s 7 (upI (upI f7 (i32 (2 * x1)) x2) (i32 ((i32 (2 * x1)) + 1)) (-1))) 0 0)) ∧ (¬ (f7 (i32 ((i32 (2 * x1)) + 1))) = (-1) → Q (some (vI 1)) (sS (sA s 7 (upI (upI f7 (i32 (2 * x1)) x2) (i32 ((i32 (2 * x1)) + 1)) (-1))) 0 0)))))) ∧ (¬ x2 < 12 → (0 ≤ (i32 (2 * x1)) ∧ (i32 (2 * x1)) < 120) ∧ ((¬ (f7 (i32 (2 * x1))) = x2 → (0 ≤ (i32 ((i32 (2 * x1)) + 1)) ∧ (i32 ((i32 (2 * x1)) + 1)) < 120) ∧ (Q (some (vI 1)) (sS (sA s 7 (upI (upI f7 (i32 (2 * x1)) x2) (i32 ((i32 (2 * x1)) + 1)) x3)) 0 0))) ∧ ((f7 (i32 (2 * x1))) = x2 → (0 ≤ (i32 ((i32 (2 * x1)) + 1)) ∧ (i32 ((i32 (2 * x1)) + 1)) < 120) ∧ (((f7 (i32 ((i32 (2 * x1)) + 1))) = x3 → Q (some (vI 0)) (sS (sA s 7 (upI (upI f7 (i32 (2 * x1)) x2) (i32 ((i32 (2 * x1)) + 1)) x3)) 0 0)) ∧ (¬ (f7 (i32 ((i32 (2 * x1)) + 1))) = x3 → Q (some (vI 1)) (sS (sA s 7 (upI (upI f7 (i32 (2 * x1)) x2) (i32 ((i32 (2 * x1)) + 1)) x3)) 0 0))))))) ∧ ((bI ((0 : Int) ≤ x3 ∧ x3 ≤ (99 : Int))) = 0 → Q (some (vI (-2))) (sS (sA s 7 f7) 0 0)))) ∧ (x2 = 14 → (¬ (bI ((0 : Int) ≤ x3 ∧ x3 ≤ (i32 ((s.2 6 0) - 1)))) = 0 → (x2 < 12 → (0 ≤ (i32 (2 * x1)) ∧ (i32 (2 * x1)) < 120) ∧ ((¬ (f7 (i32 (2 * x1))) = x2 → (0 ≤ (i32 ((i32 (2 * x1)) + 1)) ∧ (i32 ((i32 (2 * x1)) + 1)) < 120) ∧ (Q (some (vI 1)) (sS (sA s 7 (upI (upI f7 (i32 (2 * x1)) x2) (i32 ((i32 (2 * x1)) + 1)) (-1))) 0 0))) ∧ ((f7 (i32 (2 * x1))) = x2 → (0 ≤ (i32 ((i32 (2 * x1)) + 1)) ∧ (i32 ((i32 (2 * x1)) + 1)) < 120) ∧ (((f7 (i32 ((i32 (2 * x1)) + 1))) = (-1) → Q (some (vI 0)) (sS (sA s 7 (upI (upI f7 (i32 (2 * x1)) x2) (i32 ((i32 (2 * x1)) + 1)) (-1))) 0 0)) ∧ (¬ (f7 (i32 ((i32 (2 * x1)) + 1))) = (-1) → Q (some (vI 1)) (sS (sA s 7 (upI (upI f7 (i32 (2 * x1)) x2) (i32 ((i32 (2 * x1)) + 1)) (-1))) 0 0)))))) ∧ (¬ x2 < 12 → (0 ≤ (i32 (2 * x1)) ∧ (i32 (2 * x1)) < 120) ∧ ((¬ (f7 (i32 (2 * x1))) = x2 → (0 ≤ (i32 ((i32 (2 * x1)) + 1)) ∧ (i32 ((i32 (2 * x1)) + 1)) < 120) ∧ (Q (some (vI 1)) (sS (sA s 7 (upI (upI f7 (i32 (2 * x1)) x2) (i32 ((i32 (2 * x1)) + 1)) x3)) 0 0))) ∧ ((f7 (i32 (2 * x1))) = x2 → (0 ≤ (i32 ((i32 (2 * x1)) + 1)) ∧ (i32 ((i32 (2 * x1)) + 1)) < 120) ∧ (((f7 (i32 ((i32 (2 * x1)) + 1))) = x3 → Q (some (vI 0)) (sS (sA s 7 (upI (upI f7 (i32 (2 * x1)) x2) (i32 ((i32 (2 * x1)) + 1)) x3)) 0 0)) ∧ (¬ (f7 (i32 ((i32 (2 * x1)) + 1))) = x3 → Q (some (vI 1)) (sS (sA s 7 (upI (upI f7 (i32 (2 * x1)) x2) (i32 ((i32 (2 * x1)) + 1)) x3)) 0 0))))))) ∧ ((bI ((0 : Int) ≤ x3 ∧ x3 ≤ (i32 ((s.2 6 0) - 1)))) = 0 → Q (some (vI (-2))) (sS (sA s 7 f7) 0 0))))))) : HX3_turn_0 Q b s x1 x2 x3 f7 k0 := by
  refine JW.aload_n dX3_turn_0 rfl ?_
  refine JW.iconst dX3_turn_1 rfl ?_
  refine JW.mputI dX3_turn_2 (pX3_77 _) rfl ?_
  refine JW.steq (s2 := sS (sA s 7 f7) 0 0) (by simp only [sA_A, sS_S, sA_S, sA_lt, sS_lt, Nat.reduceLT, id_eq] <;> rfl) ?_
  refine JW.aload_n dX3_turn_5 rfl ?_
  refine JW.iload_n dX3_turn_6 rfl ?_
  obtain ⟨o_1, K⟩ := K
  refine JW.mcall (As := [vI x1]) dX3_turn_7 vX3_isWord rfl q1784 (ctX3_isWord b (sS (sA s 7 f7) 0 0) x1 o_1) (Nat.le_of_ble_eq_true rfl) rfl (Nat.le_of_ble_eq_true rfl) ?_
  rintro _ _ ⟨rfl, eq_2⟩
  refine JW.steq (s2 := sS (sA s 7 f7) 0 0) eq_2 ?_
  refine JW.if_eq (tgt := 65) dX3_turn_10 rfl (fun c_3 => ?_) (fun c_3 => ?_)
  · have K := K.1 c_3
    refine JW.bipush dX3_turn_65 rfl ?_
    exact JW.ireturn dX3_turn_67 rfl rfl ⟨_, rfl, K⟩
  · have K := K.2 c_3
    refine JW.iload_n dX3_turn_13 rfl ?_
    refine JW.i2l dX3_turn_14 ?_
    refine JW.lconst (x := 0) dX3_turn_15 rfl ?_
    refine JW.ldc2 (x := 14) dX3_turn_16 q1792 rfl ?_
    refine JW.mcallS (As := [vL x2, vL 0, vL 14]) dX3_turn_19 vX3_in q1632 (ctX3_in b (sS (sA s 7 f7) 0 0) x2 0 14) (Nat.le_of_ble_eq_true rfl) rfl (Nat.le_of_ble_eq_true rfl) ?_
    rintro _ _ ⟨rfl, eq_4⟩
    refine JW.steq (s2 := sS (sA s 7 f7) 0 0) eq_4 ?_
    refine JW.if_eq (tgt := 65) dX3_turn_22 rfl (fun c_5 => ?_) (fun c_5 => ?_)
    · have K := K.1 c_5
      refine JW.bipush dX3_turn_65 rfl ?_
      exact JW.ireturn dX3_turn_67 rfl rfl ⟨_, rfl, K⟩
    · have K := K.2 c_5
      refine JW.iload_n dX3_turn_25 rfl ?_
      refine JW.i2l dX3_turn_26 ?_
      refine JW.lconst (x := 0) dX3_turn_27 rfl ?_
      refine JW.iload_n dX3_turn_28 rfl ?_
      refine JW.bipush dX3_turn_29 rfl ?_
      refine JW.icmp_ne (tgt := 46) dX3_turn_31 rfl (fun c_6 => ?_) (fun c_6 => ?_)
      · have K := K.1 c_6
        refine JW.iload_n dX3_turn_46 rfl ?_
        refine JW.bipush dX3_turn_47 rfl ?_
        refine JW.icmp_lt (tgt := 58) dX3_turn_49 rfl (fun c_7 => ?_) (fun c_7 => ?_)
        · have K := K.1 c_7
          refine JW.lconst (x := 0) dX3_turn_58 rfl ?_
          refine JW.mcallS (As := [vL x3, vL 0, vL 0]) dX3_turn_59 vX3_in q1632 (ctX3_in b (sS (sA s 7 f7) 0 0) x3 0 0) (Nat.le_of_ble_eq_true rfl) rfl (Nat.le_of_ble_eq_true rfl) ?_
          rintro _ _ ⟨rfl, eq_8⟩
          refine JW.steq (s2 := sS (sA s 7 f7) 0 0) eq_8 ?_
          refine JW.if_ne (tgt := 68) dX3_turn_62 rfl (fun c_9 => ?_) (fun c_9 => ?_)
          · have K := K.1 c_9
            refine JW.iload_n dX3_turn_68 rfl ?_
            refine JW.bipush dX3_turn_69 rfl ?_
            refine JW.icmp_lt (tgt := 78) dX3_turn_71 rfl (fun c_10 => ?_) (fun c_10 => ?_)
            · have K := K.1 c_10
              refine JW.iconst dX3_turn_78 rfl ?_
              refine JW.istore (ls' := [(0, vR 351), (1, vI x1), (2, vI x2), (3, vI x3), (4, vI (-1))]) dX3_turn_79 (Nat.le_of_ble_eq_true rfl) rfl ?_
              refine JW.aload_n dX3_turn_81 rfl ?_
              refine JW.mget (v := vR 359) dX3_turn_82 fX3_37 rfl ?_
              refine JW.iconst dX3_turn_85 rfl ?_
              refine JW.iload_n dX3_turn_86 rfl ?_
              refine JW.imul dX3_turn_87 ?_
              obtain ⟨o_11, K⟩ := K
              refine JW.mald 7 (x := (f7 (i32 (2 * x1)))) dX3_turn_88 (Nat.le_of_ble_eq_true rfl) rfl o_11.1 o_11.2 rfl ?_
              refine JW.iload_n dX3_turn_89 rfl ?_
              refine JW.icmp_ne (tgt := 108) dX3_turn_90 rfl (fun c_12 => ?_) (fun c_12 => ?_)
              · have K := K.1 c_12
                refine JW.iconst dX3_turn_108 rfl ?_
                refine JW.goto (tgt := 113) dX3_turn_109 rfl ?_
                refine JW.istore (ls' := [(0, vR 351), (1, vI x1), (2, vI x2), (3, vI x3), (4, vI (-1)), (5, vI 1)]) dX3_turn_113 (Nat.le_of_ble_eq_true rfl) rfl ?_
                refine JW.aload_n dX3_turn_115 rfl ?_
                refine JW.mget (v := vR 359) dX3_turn_116 fX3_37 rfl ?_
                refine JW.iconst dX3_turn_119 rfl ?_
                refine JW.iload_n dX3_turn_120 rfl ?_
                refine JW.imul dX3_turn_121 ?_
                refine JW.iload_n dX3_turn_122 rfl ?_
                refine JW.mast 7 (f := f7) dX3_turn_123 (Nat.le_of_ble_eq_true rfl) rfl o_11.1 o_11.2 rfl ?_
                refine JW.steq (s2 := sS (sA s 7 (upI f7 (i32 (2 * x1)) x2)) 0 0) (by simp only [sA_A, sS_S, sA_S, sA_lt, sS_lt, Nat.reduceLT, id_eq] <;> rfl) ?_
                refine JW.aload_n dX3_turn_124 rfl ?_
                refine JW.mget (v := vR 359) dX3_turn_125 fX3_37 rfl ?_
                refine JW.iconst dX3_turn_128 rfl ?_
                refine JW.iload_n dX3_turn_129 rfl ?_
                refine JW.imul dX3_turn_130 ?_
                refine JW.iconst dX3_turn_131 rfl ?_
                refine JW.iadd dX3_turn_132 ?_
                refine JW.iload dX3_turn_133 rfl ?_
                obtain ⟨o_13, K⟩ := K
                refine JW.mast 7 (f := (upI f7 (i32 (2 * x1)) x2)) dX3_turn_135 (Nat.le_of_ble_eq_true rfl) rfl o_13.1 o_13.2 rfl ?_
                refine JW.steq (s2 := sS (sA s 7 (upI (upI f7 (i32 (2 * x1)) x2) (i32 ((i32 (2 * x1)) + 1)) (-1))) 0 0) (by simp only [sA_A, sS_S, sA_S, sA_lt, sS_lt, Nat.reduceLT, id_eq] <;> rfl) ?_
                refine JW.iload dX3_turn_136 rfl ?_
                refine JW.if_eq (tgt := 145) dX3_turn_138 rfl (fun c => absurd c (by decide)) (fun _ => ?_)
                refine JW.iconst dX3_turn_141 rfl ?_
                refine JW.goto (tgt := 146) dX3_turn_142 rfl ?_
                exact JW.ireturn dX3_turn_146 rfl rfl ⟨_, rfl, K⟩
              · have K := K.2 c_12
                refine JW.aload_n dX3_turn_93 rfl ?_
                refine JW.mget (v := vR 359) dX3_turn_94 fX3_37 rfl ?_
                refine JW.iconst dX3_turn_97 rfl ?_
                refine JW.iload_n dX3_turn_98 rfl ?_
                refine JW.imul dX3_turn_99 ?_
                refine JW.iconst dX3_turn_100 rfl ?_
                refine JW.iadd dX3_turn_101 ?_
                obtain ⟨o_15, K⟩ := K
                refine JW.mald 7 (x := (f7 (i32 ((i32 (2 * x1)) + 1)))) dX3_turn_102 (Nat.le_of_ble_eq_true rfl) rfl o_15.1 o_15.2 rfl ?_
                refine JW.iload dX3_turn_103 rfl ?_
                refine JW.icmp_eq (tgt := 112) dX3_turn_105 rfl (fun c_16 => ?_) (fun c_16 => ?_)
                · have K := K.1 c_16
                  refine JW.iconst dX3_turn_112 rfl ?_
                  refine JW.istore (ls' := [(0, vR 351), (1, vI x1), (2, vI x2), (3, vI x3), (4, vI (-1)), (5, vI 0)]) dX3_turn_113 (Nat.le_of_ble_eq_true rfl) rfl ?_
                  refine JW.aload_n dX3_turn_115 rfl ?_
                  refine JW.mget (v := vR 359) dX3_turn_116 fX3_37 rfl ?_
                  refine JW.iconst dX3_turn_119 rfl ?_
                  refine JW.iload_n dX3_turn_120 rfl ?_
                  refine JW.imul dX3_turn_121 ?_
                  refine JW.iload_n dX3_turn_122 rfl ?_
                  refine JW.mast 7 (f := f7) dX3_turn_123 (Nat.le_of_ble_eq_true rfl) rfl o_11.1 o_11.2 rfl ?_
                  refine JW.steq (s2 := sS (sA s 7 (upI f7 (i32 (2 * x1)) x2)) 0 0) (by simp only [sA_A, sS_S, sA_S, sA_lt, sS_lt, Nat.reduceLT, id_eq] <;> rfl) ?_
                  refine JW.aload_n dX3_turn_124 rfl ?_
                  refine JW.mget (v := vR 359) dX3_turn_125 fX3_37 rfl ?_
                  refine JW.iconst dX3_turn_128 rfl ?_
                  refine JW.iload_n dX3_turn_129 rfl ?_
                  refine JW.imul dX3_turn_130 ?_
                  refine JW.iconst dX3_turn_131 rfl ?_
                  refine JW.iadd dX3_turn_132 ?_
                  refine JW.iload dX3_turn_133 rfl ?_
                  refine JW.mast 7 (f := (upI f7 (i32 (2 * x1)) x2)) dX3_turn_135 (Nat.le_of_ble_eq_true rfl) rfl o_15.1 o_15.2 rfl ?_
                  refine JW.steq (s2 := sS (sA s 7 (upI (upI f7 (i32 (2 * x1)) x2) (i32 ((i32 (2 * x1)) + 1)) (-1))) 0 0) (by simp only [sA_A, sS_S, sA_S, sA_lt, sS_lt, Nat.reduceLT, id_eq] <;> rfl) ?_
                  refine JW.iload dX3_turn_136 rfl ?_
                  refine JW.if_eq (tgt := 145) dX3_turn_138 rfl (fun _ => ?_) (fun c => absurd c (by decide))
                  refine JW.iconst dX3_turn_145 rfl ?_
                  exact JW.ireturn dX3_turn_146 rfl rfl ⟨_, rfl, K⟩
                · have K := K.2 c_16
                  refine JW.iconst dX3_turn_108 rfl ?_
                  refine JW.goto (tgt := 113) dX3_turn_109 rfl ?_
                  refine JW.istore (ls' := [(0, vR 351), (1, vI x1), (2, vI x2), (3, vI x3), (4, vI (-1)), (5, vI 1)]) dX3_turn_113 (Nat.le_of_ble_eq_true rfl) rfl ?_
                  refine JW.aload_n dX3_turn_115 rfl ?_
                  refine JW.mget (v := vR 359) dX3_turn_116 fX3_37 rfl ?_
                  refine JW.iconst dX3_turn_119 rfl ?_
                  refine JW.iload_n dX3_turn_120 rfl ?_
                  refine JW.imul dX3_turn_121 ?_
                  refine JW.iload_n dX3_turn_122 rfl ?_
                  refine JW.mast 7 (f := f7) dX3_turn_123 (Nat.le_of_ble_eq_true rfl) rfl o_11.1 o_11.2 rfl ?_
                  refine JW.steq (s2 := sS (sA s 7 (upI f7 (i32 (2 * x1)) x2)) 0 0) (by simp only [sA_A, sS_S, sA_S, sA_lt, sS_lt, Nat.reduceLT, id_eq] <;> rfl) ?_
                  refine JW.aload_n dX3_turn_124 rfl ?_
                  refine JW.mget (v := vR 359) dX3_turn_125 fX3_37 rfl ?_
                  refine JW.iconst dX3_turn_128 rfl ?_
                  refine JW.iload_n dX3_turn_129 rfl ?_
                  refine JW.imul dX3_turn_130 ?_
                  refine JW.iconst dX3_turn_131 rfl ?_
                  refine JW.iadd dX3_turn_132 ?_
                  refine JW.iload dX3_turn_133 rfl ?_
                  refine JW.mast 7 (f := (upI f7 (i32 (2 * x1)) x2)) dX3_turn_135 (Nat.le_of_ble_eq_true rfl) rfl o_15.1 o_15.2 rfl ?_
                  refine JW.steq (s2 := sS (sA s 7 (upI (upI f7 (i32 (2 * x1)) x2) (i32 ((i32 (2 * x1)) + 1)) (-1))) 0 0) (by simp only [sA_A, sS_S, sA_S, sA_lt, sS_lt, Nat.reduceLT, id_eq] <;> rfl) ?_
                  refine JW.iload dX3_turn_136 rfl ?_
                  refine JW.if_eq (tgt := 145) dX3_turn_138 rfl (fun c => absurd c (by decide)) (fun _ => ?_)
                  refine JW.iconst dX3_turn_141 rfl ?_
                  refine JW.goto (tgt := 146) dX3_turn_142 rfl ?_
                  exact JW.ireturn dX3_turn_146 rfl rfl ⟨_, rfl, K⟩
            · have K := K.2 c_10
              refine JW.iload_n dX3_turn_74 rfl ?_
              refine JW.goto (tgt := 79) dX3_turn_75 rfl ?_
              refine JW.istore (ls' := [(0, vR 351), (1, vI x1), (2, vI x2), (3, vI x3), (4, vI x3)]) dX3_turn_79 (Nat.le_of_ble_eq_true rfl) rfl ?_
              refine JW.aload_n dX3_turn_81 rfl ?_
              refine JW.mget (v := vR 359) dX3_turn_82 fX3_37 rfl ?_
              refine JW.iconst dX3_turn_85 rfl ?_
              refine JW.iload_n dX3_turn_86 rfl ?_
              refine JW.imul dX3_turn_87 ?_
              obtain ⟨o_19, K⟩ := K
              refine JW.mald 7 (x := (f7 (i32 (2 * x1)))) dX3_turn_88 (Nat.le_of_ble_eq_true rfl) rfl o_19.1 o_19.2 rfl ?_
              refine JW.iload_n dX3_turn_89 rfl ?_
              refine JW.icmp_ne (tgt := 108) dX3_turn_90 rfl (fun c_20 => ?_) (fun c_20 => ?_)
              · have K := K.1 c_20
                refine JW.iconst dX3_turn_108 rfl ?_
                refine JW.goto (tgt := 113) dX3_turn_109 rfl ?_
                refine JW.istore (ls' := [(0, vR 351), (1, vI x1), (2, vI x2), (3, vI x3), (4, vI x3), (5, vI 1)]) dX3_turn_113 (Nat.le_of_ble_eq_true rfl) rfl ?_
                refine JW.aload_n dX3_turn_115 rfl ?_
                refine JW.mget (v := vR 359) dX3_turn_116 fX3_37 rfl ?_
                refine JW.iconst dX3_turn_119 rfl ?_
                refine JW.iload_n dX3_turn_120 rfl ?_
                refine JW.imul dX3_turn_121 ?_
                refine JW.iload_n dX3_turn_122 rfl ?_
                refine JW.mast 7 (f := f7) dX3_turn_123 (Nat.le_of_ble_eq_true rfl) rfl o_19.1 o_19.2 rfl ?_
                refine JW.steq (s2 := sS (sA s 7 (upI f7 (i32 (2 * x1)) x2)) 0 0) (by simp only [sA_A, sS_S, sA_S, sA_lt, sS_lt, Nat.reduceLT, id_eq] <;> rfl) ?_
                refine JW.aload_n dX3_turn_124 rfl ?_
                refine JW.mget (v := vR 359) dX3_turn_125 fX3_37 rfl ?_
                refine JW.iconst dX3_turn_128 rfl ?_
                refine JW.iload_n dX3_turn_129 rfl ?_
                refine JW.imul dX3_turn_130 ?_
                refine JW.iconst dX3_turn_131 rfl ?_
                refine JW.iadd dX3_turn_132 ?_
                refine JW.iload dX3_turn_133 rfl ?_
                obtain ⟨o_21, K⟩ := K
                refine JW.mast 7 (f := (upI f7 (i32 (2 * x1)) x2)) dX3_turn_135 (Nat.le_of_ble_eq_true rfl) rfl o_21.1 o_21.2 rfl ?_
                refine JW.steq (s2 := sS (sA s 7 (upI (upI f7 (i32 (2 * x1)) x2) (i32 ((i32 (2 * x1)) + 1)) x3)) 0 0) (by simp only [sA_A, sS_S, sA_S, sA_lt, sS_lt, Nat.reduceLT, id_eq] <;> rfl) ?_
                refine JW.iload dX3_turn_136 rfl ?_
                refine JW.if_eq (tgt := 145) dX3_turn_138 rfl (fun c => absurd c (by decide)) (fun _ => ?_)
                refine JW.iconst dX3_turn_141 rfl ?_
                refine JW.goto (tgt := 146) dX3_turn_142 rfl ?_
                exact JW.ireturn dX3_turn_146 rfl rfl ⟨_, rfl, K⟩
              · have K := K.2 c_20
                refine JW.aload_n dX3_turn_93 rfl ?_
                refine JW.mget (v := vR 359) dX3_turn_94 fX3_37 rfl ?_
                refine JW.iconst dX3_turn_97 rfl ?_
                refine JW.iload_n dX3_turn_98 rfl ?_
                refine JW.imul dX3_turn_99 ?_
                refine JW.iconst dX3_turn_100 rfl ?_
                refine JW.iadd dX3_turn_101 ?_
                obtain ⟨o_23, K⟩ := K
                refine JW.mald 7 (x := (f7 (i32 ((i32 (2 * x1)) + 1)))) dX3_turn_102 (Nat.le_of_ble_eq_true rfl) rfl o_23.1 o_23.2 rfl ?_
                refine JW.iload dX3_turn_103 rfl ?_
                refine JW.icmp_eq (tgt := 112) dX3_turn_105 rfl (fun c_24 => ?_) (fun c_24 => ?_)
                · have K := K.1 c_24
                  refine JW.iconst dX3_turn_112 rfl ?_
                  refine JW.istore (ls' := [(0, vR 351), (1, vI x1), (2, vI x2), (3, vI x3), (4, vI x3), (5, vI 0)]) dX3_turn_113 (Nat.le_of_ble_eq_true rfl) rfl ?_
                  refine JW.aload_n dX3_turn_115 rfl ?_
                  refine JW.mget (v := vR 359) dX3_turn_116 fX3_37 rfl ?_
                  refine JW.iconst dX3_turn_119 rfl ?_
                  refine JW.iload_n dX3_turn_120 rfl ?_
                  refine JW.imul dX3_turn_121 ?_
                  refine JW.iload_n dX3_turn_122 rfl ?_
                  refine JW.mast 7 (f := f7) dX3_turn_123 (Nat.le_of_ble_eq_true rfl) rfl o_19.1 o_19.2 rfl ?_
                  refine JW.steq (s2 := sS (sA s 7 (upI f7 (i32 (2 * x1)) x2)) 0 0) (by simp only [sA_A, sS_S, sA_S, sA_lt, sS_lt, Nat.reduceLT, id_eq] <;> rfl) ?_
                  refine JW.aload_n dX3_turn_124 rfl ?_
                  refine JW.mget (v := vR 359) dX3_turn_125 fX3_37 rfl ?_
                  refine JW.iconst dX3_turn_128 rfl ?_
                  refine JW.iload_n dX3_turn_129 rfl ?_
                  refine JW.imul dX3_turn_130 ?_
                  refine JW.iconst dX3_turn_131 rfl ?_
                  refine JW.iadd dX3_turn_132 ?_
                  refine JW.iload dX3_turn_133 rfl ?_
                  refine JW.mast 7 (f := (upI f7 (i32 (2 * x1)) x2)) dX3_turn_135 (Nat.le_of_ble_eq_true rfl) rfl o_23.1 o_23.2 rfl ?_
                  refine JW.steq (s2 := sS (sA s 7 (upI (upI f7 (i32 (2 * x1)) x2) (i32 ((i32 (2 * x1)) + 1)) x3)) 0 0) (by simp only [sA_A, sS_S, sA_S, sA_lt, sS_lt, Nat.reduceLT, id_eq] <;> rfl) ?_
                  refine JW.iload dX3_turn_136 rfl ?_
                  refine JW.if_eq (tgt := 145) dX3_turn_138 rfl (fun _ => ?_) (fun c => absurd c (by decide))
                  refine JW.iconst dX3_turn_145 rfl ?_
                  exact JW.ireturn dX3_turn_146 rfl rfl ⟨_, rfl, K⟩
                · have K := K.2 c_24
                  refine JW.iconst dX3_turn_108 rfl ?_
                  refine JW.goto (tgt := 113) dX3_turn_109 rfl ?_
                  refine JW.istore (ls' := [(0, vR 351), (1, vI x1), (2, vI x2), (3, vI x3), (4, vI x3), (5, vI 1)]) dX3_turn_113 (Nat.le_of_ble_eq_true rfl) rfl ?_
                  refine JW.aload_n dX3_turn_115 rfl ?_
                  refine JW.mget (v := vR 359) dX3_turn_116 fX3_37 rfl ?_
                  refine JW.iconst dX3_turn_119 rfl ?_
                  refine JW.iload_n dX3_turn_120 rfl ?_
                  refine JW.imul dX3_turn_121 ?_
                  refine JW.iload_n dX3_turn_122 rfl ?_
                  refine JW.mast 7 (f := f7) dX3_turn_123 (Nat.le_of_ble_eq_true rfl) rfl o_19.1 o_19.2 rfl ?_
                  refine JW.steq (s2 := sS (sA s 7 (upI f7 (i32 (2 * x1)) x2)) 0 0) (by simp only [sA_A, sS_S, sA_S, sA_lt, sS_lt, Nat.reduceLT, id_eq] <;> rfl) ?_
                  refine JW.aload_n dX3_turn_124 rfl ?_
                  refine JW.mget (v := vR 359) dX3_turn_125 fX3_37 rfl ?_
                  refine JW.iconst dX3_turn_128 rfl ?_
                  refine JW.iload_n dX3_turn_129 rfl ?_
                  refine JW.imul dX3_turn_130 ?_
                  refine JW.iconst dX3_turn_131 rfl ?_
                  refine JW.iadd dX3_turn_132 ?_
                  refine JW.iload dX3_turn_133 rfl ?_
                  refine JW.mast 7 (f := (upI f7 (i32 (2 * x1)) x2)) dX3_turn_135 (Nat.le_of_ble_eq_true rfl) rfl o_23.1 o_23.2 rfl ?_
                  refine JW.steq (s2 := sS (sA s 7 (upI (upI f7 (i32 (2 * x1)) x2) (i32 ((i32 (2 * x1)) + 1)) x3)) 0 0) (by simp only [sA_A, sS_S, sA_S, sA_lt, sS_lt, Nat.reduceLT, id_eq] <;> rfl) ?_
                  refine JW.iload dX3_turn_136 rfl ?_
                  refine JW.if_eq (tgt := 145) dX3_turn_138 rfl (fun c => absurd c (by decide)) (fun _ => ?_)
                  refine JW.iconst dX3_turn_141 rfl ?_
                  refine JW.goto (tgt := 146) dX3_turn_142 rfl ?_
                  exact JW.ireturn dX3_turn_146 rfl rfl ⟨_, rfl, K⟩
          · have K := K.2 c_9
            refine JW.bipush dX3_turn_65 rfl ?_
            exact JW.ireturn dX3_turn_67 rfl rfl ⟨_, rfl, K⟩
        · have K := K.2 c_7
          refine JW.ldc2 (x := 99) dX3_turn_52 q1793 rfl ?_
          refine JW.goto (tgt := 59) dX3_turn_55 rfl ?_
          refine JW.mcallS (As := [vL x3, vL 0, vL 99]) dX3_turn_59 vX3_in q1632 (ctX3_in b (sS (sA s 7 f7) 0 0) x3 0 99) (Nat.le_of_ble_eq_true rfl) rfl (Nat.le_of_ble_eq_true rfl) ?_
          rintro _ _ ⟨rfl, eq_27⟩
          refine JW.steq (s2 := sS (sA s 7 f7) 0 0) eq_27 ?_
          refine JW.if_ne (tgt := 68) dX3_turn_62 rfl (fun c_28 => ?_) (fun c_28 => ?_)
          · have K := K.1 c_28
            refine JW.iload_n dX3_turn_68 rfl ?_
            refine JW.bipush dX3_turn_69 rfl ?_
            refine JW.icmp_lt (tgt := 78) dX3_turn_71 rfl (fun c_29 => ?_) (fun c_29 => ?_)
            · have K := K.1 c_29
              refine JW.iconst dX3_turn_78 rfl ?_
              refine JW.istore (ls' := [(0, vR 351), (1, vI x1), (2, vI x2), (3, vI x3), (4, vI (-1))]) dX3_turn_79 (Nat.le_of_ble_eq_true rfl) rfl ?_
              refine JW.aload_n dX3_turn_81 rfl ?_
              refine JW.mget (v := vR 359) dX3_turn_82 fX3_37 rfl ?_
              refine JW.iconst dX3_turn_85 rfl ?_
              refine JW.iload_n dX3_turn_86 rfl ?_
              refine JW.imul dX3_turn_87 ?_
              obtain ⟨o_30, K⟩ := K
              refine JW.mald 7 (x := (f7 (i32 (2 * x1)))) dX3_turn_88 (Nat.le_of_ble_eq_true rfl) rfl o_30.1 o_30.2 rfl ?_
              refine JW.iload_n dX3_turn_89 rfl ?_
              refine JW.icmp_ne (tgt := 108) dX3_turn_90 rfl (fun c_31 => ?_) (fun c_31 => ?_)
              · have K := K.1 c_31
                refine JW.iconst dX3_turn_108 rfl ?_
                refine JW.goto (tgt := 113) dX3_turn_109 rfl ?_
                refine JW.istore (ls' := [(0, vR 351), (1, vI x1), (2, vI x2), (3, vI x3), (4, vI (-1)), (5, vI 1)]) dX3_turn_113 (Nat.le_of_ble_eq_true rfl) rfl ?_
                refine JW.aload_n dX3_turn_115 rfl ?_
                refine JW.mget (v := vR 359) dX3_turn_116 fX3_37 rfl ?_
                refine JW.iconst dX3_turn_119 rfl ?_
                refine JW.iload_n dX3_turn_120 rfl ?_
                refine JW.imul dX3_turn_121 ?_
                refine JW.iload_n dX3_turn_122 rfl ?_
                refine JW.mast 7 (f := f7) dX3_turn_123 (Nat.le_of_ble_eq_true rfl) rfl o_30.1 o_30.2 rfl ?_
                refine JW.steq (s2 := sS (sA s 7 (upI f7 (i32 (2 * x1)) x2)) 0 0) (by simp only [sA_A, sS_S, sA_S, sA_lt, sS_lt, Nat.reduceLT, id_eq] <;> rfl) ?_
                refine JW.aload_n dX3_turn_124 rfl ?_
                refine JW.mget (v := vR 359) dX3_turn_125 fX3_37 rfl ?_
                refine JW.iconst dX3_turn_128 rfl ?_
                refine JW.iload_n dX3_turn_129 rfl ?_
                refine JW.imul dX3_turn_130 ?_
                refine JW.iconst dX3_turn_131 rfl ?_
                refine JW.iadd dX3_turn_132 ?_
                refine JW.iload dX3_turn_133 rfl ?_
                obtain ⟨o_32, K⟩ := K
                refine JW.mast 7 (f := (upI f7 (i32 (2 * x1)) x2)) dX3_turn_135 (Nat.le_of_ble_eq_true rfl) rfl o_32.1 o_32.2 rfl ?_
                refine JW.steq (s2 := sS (sA s 7 (upI (upI f7 (i32 (2 * x1)) x2) (i32 ((i32 (2 * x1)) + 1)) (-1))) 0 0) (by simp only [sA_A, sS_S, sA_S, sA_lt, sS_lt, Nat.reduceLT, id_eq] <;> rfl) ?_
                refine JW.iload dX3_turn_136 rfl ?_
                refine JW.if_eq (tgt := 145) dX3_turn_138 rfl (fun c => absurd c (by decide)) (fun _ => ?_)
                refine JW.iconst dX3_turn_141 rfl ?_
                refine JW.goto (tgt := 146) dX3_turn_142 rfl ?_
                exact JW.ireturn dX3_turn_146 rfl rfl ⟨_, rfl, K⟩
              · have K := K.2 c_31
                refine JW.aload_n dX3_turn_93 rfl ?_
                refine JW.mget (v := vR 359) dX3_turn_94 fX3_37 rfl ?_
                refine JW.iconst dX3_turn_97 rfl ?_
                refine JW.iload_n dX3_turn_98 rfl ?_
                refine JW.imul dX3_turn_99 ?_
                refine JW.iconst dX3_turn_100 rfl ?_
                refine JW.iadd dX3_turn_101 ?_
                obtain ⟨o_34, K⟩ := K
                refine JW.mald 7 (x := (f7 (i32 ((i32 (2 * x1)) + 1)))) dX3_turn_102 (Nat.le_of_ble_eq_true rfl) rfl o_34.1 o_34.2 rfl ?_
                refine JW.iload dX3_turn_103 rfl ?_
                refine JW.icmp_eq (tgt := 112) dX3_turn_105 rfl (fun c_35 => ?_) (fun c_35 => ?_)
                · have K := K.1 c_35
                  refine JW.iconst dX3_turn_112 rfl ?_
                  refine JW.istore (ls' := [(0, vR 351), (1, vI x1), (2, vI x2), (3, vI x3), (4, vI (-1)), (5, vI 0)]) dX3_turn_113 (Nat.le_of_ble_eq_true rfl) rfl ?_
                  refine JW.aload_n dX3_turn_115 rfl ?_
                  refine JW.mget (v := vR 359) dX3_turn_116 fX3_37 rfl ?_
                  refine JW.iconst dX3_turn_119 rfl ?_
                  refine JW.iload_n dX3_turn_120 rfl ?_
                  refine JW.imul dX3_turn_121 ?_
                  refine JW.iload_n dX3_turn_122 rfl ?_
                  refine JW.mast 7 (f := f7) dX3_turn_123 (Nat.le_of_ble_eq_true rfl) rfl o_30.1 o_30.2 rfl ?_
                  refine JW.steq (s2 := sS (sA s 7 (upI f7 (i32 (2 * x1)) x2)) 0 0) (by simp only [sA_A, sS_S, sA_S, sA_lt, sS_lt, Nat.reduceLT, id_eq] <;> rfl) ?_
                  refine JW.aload_n dX3_turn_124 rfl ?_
                  refine JW.mget (v := vR 359) dX3_turn_125 fX3_37 rfl ?_
                  refine JW.iconst dX3_turn_128 rfl ?_
                  refine JW.iload_n dX3_turn_129 rfl ?_
                  refine JW.imul dX3_turn_130 ?_
                  refine JW.iconst dX3_turn_131 rfl ?_
                  refine JW.iadd dX3_turn_132 ?_
                  refine JW.iload dX3_turn_133 rfl ?_
                  refine JW.mast 7 (f := (upI f7 (i32 (2 * x1)) x2)) dX3_turn_135 (Nat.le_of_ble_eq_true rfl) rfl o_34.1 o_34.2 rfl ?_
                  refine JW.steq (s2 := sS (sA s 7 (upI (upI f7 (i32 (2 * x1)) x2) (i32 ((i32 (2 * x1)) + 1)) (-1))) 0 0) (by simp only [sA_A, sS_S, sA_S, sA_lt, sS_lt, Nat.reduceLT, id_eq] <;> rfl) ?_
                  refine JW.iload dX3_turn_136 rfl ?_
                  refine JW.if_eq (tgt := 145) dX3_turn_138 rfl (fun _ => ?_) (fun c => absurd c (by decide))
                  refine JW.iconst dX3_turn_145 rfl ?_
                  exact JW.ireturn dX3_turn_146 rfl rfl ⟨_, rfl, K⟩
                · have K := K.2 c_35
                  refine JW.iconst dX3_turn_108 rfl ?_
                  refine JW.goto (tgt := 113) dX3_turn_109 rfl ?_
                  refine JW.istore (ls' := [(0, vR 351), (1, vI x1), (2, vI x2), (3, vI x3), (4, vI (-1)), (5, vI 1)]) dX3_turn_113 (Nat.le_of_ble_eq_true rfl) rfl ?_
                  refine JW.aload_n dX3_turn_115 rfl ?_
                  refine JW.mget (v := vR 359) dX3_turn_116 fX3_37 rfl ?_
                  refine JW.iconst dX3_turn_119 rfl ?_
                  refine JW.iload_n dX3_turn_120 rfl ?_
                  refine JW.imul dX3_turn_121 ?_
                  refine JW.iload_n dX3_turn_122 rfl ?_
                  refine JW.mast 7 (f := f7) dX3_turn_123 (Nat.le_of_ble_eq_true rfl) rfl o_30.1 o_30.2 rfl ?_
                  refine JW.steq (s2 := sS (sA s 7 (upI f7 (i32 (2 * x1)) x2)) 0 0) (by simp only [sA_A, sS_S, sA_S, sA_lt, sS_lt, Nat.reduceLT, id_eq] <;> rfl) ?_
                  refine JW.aload_n dX3_turn_124 rfl ?_
                  refine JW.mget (v := vR 359) dX3_turn_125 fX3_37 rfl ?_
                  refine JW.iconst dX3_turn_128 rfl ?_
                  refine JW.iload_n dX3_turn_129 rfl ?_
                  refine JW.imul dX3_turn_130 ?_
                  refine JW.iconst dX3_turn_131 rfl ?_
                  refine JW.iadd dX3_turn_132 ?_
                  refine JW.iload dX3_turn_133 rfl ?_
                  refine JW.mast 7 (f := (upI f7 (i32 (2 * x1)) x2)) dX3_turn_135 (Nat.le_of_ble_eq_true rfl) rfl o_34.1 o_34.2 rfl ?_
                  refine JW.steq (s2 := sS (sA s 7 (upI (upI f7 (i32 (2 * x1)) x2) (i32 ((i32 (2 * x1)) + 1)) (-1))) 0 0) (by simp only [sA_A, sS_S, sA_S, sA_lt, sS_lt, Nat.reduceLT, id_eq] <;> rfl) ?_
                  refine JW.iload dX3_turn_136 rfl ?_
                  refine JW.if_eq (tgt := 145) dX3_turn_138 rfl (fun c => absurd c (by decide)) (fun _ => ?_)
                  refine JW.iconst dX3_turn_141 rfl ?_
                  refine JW.goto (tgt := 146) dX3_turn_142 rfl ?_
                  exact JW.ireturn dX3_turn_146 rfl rfl ⟨_, rfl, K⟩
            · have K := K.2 c_29
              refine JW.iload_n dX3_turn_74 rfl ?_
              refine JW.goto (tgt := 79) dX3_turn_75 rfl ?_
              refine JW.istore (ls' := [(0, vR 351), (1, vI x1), (2, vI x2), (3, vI x3), (4, vI x3)]) dX3_turn_79 (Nat.le_of_ble_eq_true rfl) rfl ?_
              refine JW.aload_n dX3_turn_81 rfl ?_
              refine JW.mget (v := vR 359) dX3_turn_82 fX3_37 rfl ?_
              refine JW.iconst dX3_turn_85 rfl ?_
              refine JW.iload_n dX3_turn_86 rfl ?_
              refine JW.imul dX3_turn_87 ?_
              obtain ⟨o_38, K⟩ := K
              refine JW.mald 7 (x := (f7 (i32 (2 * x1)))) dX3_turn_88 (Nat.le_of_ble_eq_true rfl) rfl o_38.1 o_38.2 rfl ?_
              refine JW.iload_n dX3_turn_89 rfl ?_
              refine JW.icmp_ne (tgt := 108) dX3_turn_90 rfl (fun c_39 => ?_) (fun c_39 => ?_)
              · have K := K.1 c_39
                refine JW.iconst dX3_turn_108 rfl ?_
                refine JW.goto (tgt := 113) dX3_turn_109 rfl ?_
                refine JW.istore (ls' := [(0, vR 351), (1, vI x1), (2, vI x2), (3, vI x3), (4, vI x3), (5, vI 1)]) dX3_turn_113 (Nat.le_of_ble_eq_true rfl) rfl ?_
                refine JW.aload_n dX3_turn_115 rfl ?_
                refine JW.mget (v := vR 359) dX3_turn_116 fX3_37 rfl ?_
                refine JW.iconst dX3_turn_119 rfl ?_
                refine JW.iload_n dX3_turn_120 rfl ?_
                refine JW.imul dX3_turn_121 ?_
                refine JW.iload_n dX3_turn_122 rfl ?_
                refine JW.mast 7 (f := f7) dX3_turn_123 (Nat.le_of_ble_eq_true rfl) rfl o_38.1 o_38.2 rfl ?_
                refine JW.steq (s2 := sS (sA s 7 (upI f7 (i32 (2 * x1)) x2)) 0 0) (by simp only [sA_A, sS_S, sA_S, sA_lt, sS_lt, Nat.reduceLT, id_eq] <;> rfl) ?_
                refine JW.aload_n dX3_turn_124 rfl ?_
                refine JW.mget (v := vR 359) dX3_turn_125 fX3_37 rfl ?_
                refine JW.iconst dX3_turn_128 rfl ?_
                refine JW.iload_n dX3_turn_129 rfl ?_
                refine JW.imul dX3_turn_130 ?_
                refine JW.iconst dX3_turn_131 rfl ?_
                refine JW.iadd dX3_turn_132 ?_
                refine JW.iload dX3_turn_133 rfl ?_
                obtain ⟨o_40, K⟩ := K
                refine JW.mast 7 (f := (upI f7 (i32 (2 * x1)) x2)) dX3_turn_135 (Nat.le_of_ble_eq_true rfl) rfl o_40.1 o_40.2 rfl ?_
                refine JW.steq (s2 := sS (sA s 7 (upI (upI f7 (i32 (2 * x1)) x2) (i32 ((i32 (2 * x1)) + 1)) x3)) 0 0) (by simp only [sA_A, sS_S, sA_S, sA_lt, sS_lt, Nat.reduceLT, id_eq] <;> rfl) ?_
                refine JW.iload dX3_turn_136 rfl ?_
                refine JW.if_eq (tgt := 145) dX3_turn_138 rfl (fun c => absurd c (by decide)) (fun _ => ?_)
                refine JW.iconst dX3_turn_141 rfl ?_
                refine JW.goto (tgt := 146) dX3_turn_142 rfl ?_
                exact JW.ireturn dX3_turn_146 rfl rfl ⟨_, rfl, K⟩
              · have K := K.2 c_39
                refine JW.aload_n dX3_turn_93 rfl ?_
                refine JW.mget (v := vR 359) dX3_turn_94 fX3_37 rfl ?_
                refine JW.iconst dX3_turn_97 rfl ?_
                refine JW.iload_n dX3_turn_98 rfl ?_
                refine JW.imul dX3_turn_99 ?_
                refine JW.iconst dX3_turn_100 rfl ?_
                refine JW.iadd dX3_turn_101 ?_
                obtain ⟨o_42, K⟩ := K
                refine JW.mald 7 (x := (f7 (i32 ((i32 (2 * x1)) + 1)))) dX3_turn_102 (Nat.le_of_ble_eq_true rfl) rfl o_42.1 o_42.2 rfl ?_
                refine JW.iload dX3_turn_103 rfl ?_
                refine JW.icmp_eq (tgt := 112) dX3_turn_105 rfl (fun c_43 => ?_) (fun c_43 => ?_)
                · have K := K.1 c_43
                  refine JW.iconst dX3_turn_112 rfl ?_
                  refine JW.istore (ls' := [(0, vR 351), (1, vI x1), (2, vI x2), (3, vI x3), (4, vI x3), (5, vI 0)]) dX3_turn_113 (Nat.le_of_ble_eq_true rfl) rfl ?_
                  refine JW.aload_n dX3_turn_115 rfl ?_
                  refine JW.mget (v := vR 359) dX3_turn_116 fX3_37 rfl ?_
                  refine JW.iconst dX3_turn_119 rfl ?_
                  refine JW.iload_n dX3_turn_120 rfl ?_
                  refine JW.imul dX3_turn_121 ?_
                  refine JW.iload_n dX3_turn_122 rfl ?_
                  refine JW.mast 7 (f := f7) dX3_turn_123 (Nat.le_of_ble_eq_true rfl) rfl o_38.1 o_38.2 rfl ?_
                  refine JW.steq (s2 := sS (sA s 7 (upI f7 (i32 (2 * x1)) x2)) 0 0) (by simp only [sA_A, sS_S, sA_S, sA_lt, sS_lt, Nat.reduceLT, id_eq] <;> rfl) ?_
                  refine JW.aload_n dX3_turn_124 rfl ?_
                  refine JW.mget (v := vR 359) dX3_turn_125 fX3_37 rfl ?_
                  refine JW.iconst dX3_turn_128 rfl ?_
                  refine JW.iload_n dX3_turn_129 rfl ?_
                  refine JW.imul dX3_turn_130 ?_
                  refine JW.iconst dX3_turn_131 rfl ?_
                  refine JW.iadd dX3_turn_132 ?_
                  refine JW.iload dX3_turn_133 rfl ?_
                  refine JW.mast 7 (f := (upI f7 (i32 (2 * x1)) x2)) dX3_turn_135 (Nat.le_of_ble_eq_true rfl) rfl o_42.1 o_42.2 rfl ?_
                  refine JW.steq (s2 := sS (sA s 7 (upI (upI f7 (i32 (2 * x1)) x2) (i32 ((i32 (2 * x1)) + 1)) x3)) 0 0) (by simp only [sA_A, sS_S, sA_S, sA_lt, sS_lt, Nat.reduceLT, id_eq] <;> rfl) ?_
                  refine JW.iload dX3_turn_136 rfl ?_
                  refine JW.if_eq (tgt := 145) dX3_turn_138 rfl (fun _ => ?_) (fun c => absurd c (by decide))
                  refine JW.iconst dX3_turn_145 rfl ?_
                  exact JW.ireturn dX3_turn_146 rfl rfl ⟨_, rfl, K⟩
                · have K := K.2 c_43
                  refine JW.iconst dX3_turn_108 rfl ?_
                  refine JW.goto (tgt := 113) dX3_turn_109 rfl ?_
                  refine JW.istore (ls' := [(0, vR 351), (1, vI x1), (2, vI x2), (3, vI x3), (4, vI x3), (5, vI 1)]) dX3_turn_113 (Nat.le_of_ble_eq_true rfl) rfl ?_
                  refine JW.aload_n dX3_turn_115 rfl ?_
                  refine JW.mget (v := vR 359) dX3_turn_116 fX3_37 rfl ?_
                  refine JW.iconst dX3_turn_119 rfl ?_
                  refine JW.iload_n dX3_turn_120 rfl ?_
                  refine JW.imul dX3_turn_121 ?_
                  refine JW.iload_n dX3_turn_122 rfl ?_
                  refine JW.mast 7 (f := f7) dX3_turn_123 (Nat.le_of_ble_eq_true rfl) rfl o_38.1 o_38.2 rfl ?_
                  refine JW.steq (s2 := sS (sA s 7 (upI f7 (i32 (2 * x1)) x2)) 0 0) (by simp only [sA_A, sS_S, sA_S, sA_lt, sS_lt, Nat.reduceLT, id_eq] <;> rfl) ?_
                  refine JW.aload_n dX3_turn_124 rfl ?_
                  refine JW.mget (v := vR 359) dX3_turn_125 fX3_37 rfl ?_
                  refine JW.iconst dX3_turn_128 rfl ?_
                  refine JW.iload_n dX3_turn_129 rfl ?_
                  refine JW.imul dX3_turn_130 ?_
                  refine JW.iconst dX3_turn_131 rfl ?_
                  refine JW.iadd dX3_turn_132 ?_
                  refine JW.iload dX3_turn_133 rfl ?_
                  refine JW.mast 7 (f := (upI f7 (i32 (2 * x1)) x2)) dX3_turn_135 (Nat.le_of_ble_eq_true rfl) rfl o_42.1 o_42.2 rfl ?_
                  refine JW.steq (s2 := sS (sA s 7 (upI (upI f7 (i32 (2 * x1)) x2) (i32 ((i32 (2 * x1)) + 1)) x3)) 0 0) (by simp only [sA_A, sS_S, sA_S, sA_lt, sS_lt, Nat.reduceLT, id_eq] <;> rfl) ?_
                  refine JW.iload dX3_turn_136 rfl ?_
                  refine JW.if_eq (tgt := 145) dX3_turn_138 rfl (fun c => absurd c (by decide)) (fun _ => ?_)
                  refine JW.iconst dX3_turn_141 rfl ?_
                  refine JW.goto (tgt := 146) dX3_turn_142 rfl ?_
                  exact JW.ireturn dX3_turn_146 rfl rfl ⟨_, rfl, K⟩
          · have K := K.2 c_28
            refine JW.bipush dX3_turn_65 rfl ?_
            exact JW.ireturn dX3_turn_67 rfl rfl ⟨_, rfl, K⟩
      · have K := K.2 c_6
        refine JW.aload_n dX3_turn_34 rfl ?_
        refine JW.mget (v := vR 358) dX3_turn_35 fX3_34 rfl ?_
        refine JW.iconst dX3_turn_38 rfl ?_
        refine JW.mald 6 (x := (s.2 6 0)) dX3_turn_39 (Nat.le_of_ble_eq_true rfl) rfl (by decide) (by decide) rfl ?_
        refine JW.iconst dX3_turn_40 rfl ?_
        refine JW.isub dX3_turn_41 ?_
        refine JW.i2l dX3_turn_42 ?_
        refine JW.goto (tgt := 59) dX3_turn_43 rfl ?_
        refine JW.mcallS (As := [vL x3, vL 0, vL (i32 ((s.2 6 0) - 1))]) dX3_turn_59 vX3_in q1632 (ctX3_in b (sS (sA s 7 f7) 0 0) x3 0 (i32 ((s.2 6 0) - 1))) (Nat.le_of_ble_eq_true rfl) rfl (Nat.le_of_ble_eq_true rfl) ?_
        rintro _ _ ⟨rfl, eq_46⟩
        refine JW.steq (s2 := sS (sA s 7 f7) 0 0) eq_46 ?_
        refine JW.if_ne (tgt := 68) dX3_turn_62 rfl (fun c_47 => ?_) (fun c_47 => ?_)
        · have K := K.1 c_47
          refine JW.iload_n dX3_turn_68 rfl ?_
          refine JW.bipush dX3_turn_69 rfl ?_
          refine JW.icmp_lt (tgt := 78) dX3_turn_71 rfl (fun c_48 => ?_) (fun c_48 => ?_)
          · have K := K.1 c_48
            refine JW.iconst dX3_turn_78 rfl ?_
            refine JW.istore (ls' := [(0, vR 351), (1, vI x1), (2, vI x2), (3, vI x3), (4, vI (-1))]) dX3_turn_79 (Nat.le_of_ble_eq_true rfl) rfl ?_
            refine JW.aload_n dX3_turn_81 rfl ?_
            refine JW.mget (v := vR 359) dX3_turn_82 fX3_37 rfl ?_
            refine JW.iconst dX3_turn_85 rfl ?_
            refine JW.iload_n dX3_turn_86 rfl ?_
            refine JW.imul dX3_turn_87 ?_
            obtain ⟨o_49, K⟩ := K
            refine JW.mald 7 (x := (f7 (i32 (2 * x1)))) dX3_turn_88 (Nat.le_of_ble_eq_true rfl) rfl o_49.1 o_49.2 rfl ?_
            refine JW.iload_n dX3_turn_89 rfl ?_
            refine JW.icmp_ne (tgt := 108) dX3_turn_90 rfl (fun c_50 => ?_) (fun c_50 => ?_)
            · have K := K.1 c_50
              refine JW.iconst dX3_turn_108 rfl ?_
              refine JW.goto (tgt := 113) dX3_turn_109 rfl ?_
              refine JW.istore (ls' := [(0, vR 351), (1, vI x1), (2, vI x2), (3, vI x3), (4, vI (-1)), (5, vI 1)]) dX3_turn_113 (Nat.le_of_ble_eq_true rfl) rfl ?_
              refine JW.aload_n dX3_turn_115 rfl ?_
              refine JW.mget (v := vR 359) dX3_turn_116 fX3_37 rfl ?_
              refine JW.iconst dX3_turn_119 rfl ?_
              refine JW.iload_n dX3_turn_120 rfl ?_
              refine JW.imul dX3_turn_121 ?_
              refine JW.iload_n dX3_turn_122 rfl ?_
              refine JW.mast 7 (f := f7) dX3_turn_123 (Nat.le_of_ble_eq_true rfl) rfl o_49.1 o_49.2 rfl ?_
              refine JW.steq (s2 := sS (sA s 7 (upI f7 (i32 (2 * x1)) x2)) 0 0) (by simp only [sA_A, sS_S, sA_S, sA_lt, sS_lt, Nat.reduceLT, id_eq] <;> rfl) ?_
              refine JW.aload_n dX3_turn_124 rfl ?_
              refine JW.mget (v := vR 359) dX3_turn_125 fX3_37 rfl ?_
              refine JW.iconst dX3_turn_128 rfl ?_
              refine JW.iload_n dX3_turn_129 rfl ?_
              refine JW.imul dX3_turn_130 ?_
              refine JW.iconst dX3_turn_131 rfl ?_
              refine JW.iadd dX3_turn_132 ?_
              refine JW.iload dX3_turn_133 rfl ?_
              obtain ⟨o_51, K⟩ := K
              refine JW.mast 7 (f := (upI f7 (i32 (2 * x1)) x2)) dX3_turn_135 (Nat.le_of_ble_eq_true rfl) rfl o_51.1 o_51.2 rfl ?_
              refine JW.steq (s2 := sS (sA s 7 (upI (upI f7 (i32 (2 * x1)) x2) (i32 ((i32 (2 * x1)) + 1)) (-1))) 0 0) (by simp only [sA_A, sS_S, sA_S, sA_lt, sS_lt, Nat.reduceLT, id_eq] <;> rfl) ?_
              refine JW.iload dX3_turn_136 rfl ?_
              refine JW.if_eq (tgt := 145) dX3_turn_138 rfl (fun c => absurd c (by decide)) (fun _ => ?_)
              refine JW.iconst dX3_turn_141 rfl ?_
              refine JW.goto (tgt := 146) dX3_turn_142 rfl ?_
              exact JW.ireturn dX3_turn_146 rfl rfl ⟨_, rfl, K⟩
            · have K := K.2 c_50
              refine JW.aload_n dX3_turn_93 rfl ?_
              refine JW.mget (v := vR 359) dX3_turn_94 fX3_37 rfl ?_
              refine JW.iconst dX3_turn_97 rfl ?_
              refine JW.iload_n dX3_turn_98 rfl ?_
              refine JW.imul dX3_turn_99 ?_
              refine JW.iconst dX3_turn_100 rfl ?_
              refine JW.iadd dX3_turn_101 ?_
              obtain ⟨o_53, K⟩ := K
              refine JW.mald 7 (x := (f7 (i32 ((i32 (2 * x1)) + 1)))) dX3_turn_102 (Nat.le_of_ble_eq_true rfl) rfl o_53.1 o_53.2 rfl ?_
              refine JW.iload dX3_turn_103 rfl ?_
              refine JW.icmp_eq (tgt := 112) dX3_turn_105 rfl (fun c_54 => ?_) (fun c_54 => ?_)
              · have K := K.1 c_54
                refine JW.iconst dX3_turn_112 rfl ?_
                refine JW.istore (ls' := [(0, vR 351), (1, vI x1), (2, vI x2), (3, vI x3), (4, vI (-1)), (5, vI 0)]) dX3_turn_113 (Nat.le_of_ble_eq_true rfl) rfl ?_
                refine JW.aload_n dX3_turn_115 rfl ?_
                refine JW.mget (v := vR 359) dX3_turn_116 fX3_37 rfl ?_
                refine JW.iconst dX3_turn_119 rfl ?_
                refine JW.iload_n dX3_turn_120 rfl ?_
                refine JW.imul dX3_turn_121 ?_
                refine JW.iload_n dX3_turn_122 rfl ?_
                refine JW.mast 7 (f := f7) dX3_turn_123 (Nat.le_of_ble_eq_true rfl) rfl o_49.1 o_49.2 rfl ?_
                refine JW.steq (s2 := sS (sA s 7 (upI f7 (i32 (2 * x1)) x2)) 0 0) (by simp only [sA_A, sS_S, sA_S, sA_lt, sS_lt, Nat.reduceLT, id_eq] <;> rfl) ?_
                refine JW.aload_n dX3_turn_124 rfl ?_
                refine JW.mget (v := vR 359) dX3_turn_125 fX3_37 rfl ?_
                refine JW.iconst dX3_turn_128 rfl ?_
                refine JW.iload_n dX3_turn_129 rfl ?_
                refine JW.imul dX3_turn_130 ?_
                refine JW.iconst dX3_turn_131 rfl ?_
                refine JW.iadd dX3_turn_132 ?_
                refine JW.iload dX3_turn_133 rfl ?_
                refine JW.mast 7 (f := (upI f7 (i32 (2 * x1)) x2)) dX3_turn_135 (Nat.le_of_ble_eq_true rfl) rfl o_53.1 o_53.2 rfl ?_
                refine JW.steq (s2 := sS (sA s 7 (upI (upI f7 (i32 (2 * x1)) x2) (i32 ((i32 (2 * x1)) + 1)) (-1))) 0 0) (by simp only [sA_A, sS_S, sA_S, sA_lt, sS_lt, Nat.reduceLT, id_eq] <;> rfl) ?_
                refine JW.iload dX3_turn_136 rfl ?_
                refine JW.if_eq (tgt := 145) dX3_turn_138 rfl (fun _ => ?_) (fun c => absurd c (by decide))
                refine JW.iconst dX3_turn_145 rfl ?_
                exact JW.ireturn dX3_turn_146 rfl rfl ⟨_, rfl, K⟩
              · have K := K.2 c_54
                refine JW.iconst dX3_turn_108 rfl ?_
                refine JW.goto (tgt := 113) dX3_turn_109 rfl ?_
                refine JW.istore (ls' := [(0, vR 351), (1, vI x1), (2, vI x2), (3, vI x3), (4, vI (-1)), (5, vI 1)]) dX3_turn_113 (Nat.le_of_ble_eq_true rfl) rfl ?_
                refine JW.aload_n dX3_turn_115 rfl ?_
                refine JW.mget (v := vR 359) dX3_turn_116 fX3_37 rfl ?_
                refine JW.iconst dX3_turn_119 rfl ?_
                refine JW.iload_n dX3_turn_120 rfl ?_
                refine JW.imul dX3_turn_121 ?_
                refine JW.iload_n dX3_turn_122 rfl ?_
                refine JW.mast 7 (f := f7) dX3_turn_123 (Nat.le_of_ble_eq_true rfl) rfl o_49.1 o_49.2 rfl ?_
                refine JW.steq (s2 := sS (sA s 7 (upI f7 (i32 (2 * x1)) x2)) 0 0) (by simp only [sA_A, sS_S, sA_S, sA_lt, sS_lt, Nat.reduceLT, id_eq] <;> rfl) ?_
                refine JW.aload_n dX3_turn_124 rfl ?_
                refine JW.mget (v := vR 359) dX3_turn_125 fX3_37 rfl ?_
                refine JW.iconst dX3_turn_128 rfl ?_
                refine JW.iload_n dX3_turn_129 rfl ?_
                refine JW.imul dX3_turn_130 ?_
                refine JW.iconst dX3_turn_131 rfl ?_
                refine JW.iadd dX3_turn_132 ?_
                refine JW.iload dX3_turn_133 rfl ?_
                refine JW.mast 7 (f := (upI f7 (i32 (2 * x1)) x2)) dX3_turn_135 (Nat.le_of_ble_eq_true rfl) rfl o_53.1 o_53.2 rfl ?_
                refine JW.steq (s2 := sS (sA s 7 (upI (upI f7 (i32 (2 * x1)) x2) (i32 ((i32 (2 * x1)) + 1)) (-1))) 0 0) (by simp only [sA_A, sS_S, sA_S, sA_lt, sS_lt, Nat.reduceLT, id_eq] <;> rfl) ?_
                refine JW.iload dX3_turn_136 rfl ?_
                refine JW.if_eq (tgt := 145) dX3_turn_138 rfl (fun c => absurd c (by decide)) (fun _ => ?_)
                refine JW.iconst dX3_turn_141 rfl ?_
                refine JW.goto (tgt := 146) dX3_turn_142 rfl ?_
                exact JW.ireturn dX3_turn_146 rfl rfl ⟨_, rfl, K⟩
          · have K := K.2 c_48
            refine JW.iload_n dX3_turn_74 rfl ?_
            refine JW.goto (tgt := 79) dX3_turn_75 rfl ?_
            refine JW.istore (ls' := [(0, vR 351), (1, vI x1), (2, vI x2), (3, vI x3), (4, vI x3)]) dX3_turn_79 (Nat.le_of_ble_eq_true rfl) rfl ?_
            refine JW.aload_n dX3_turn_81 rfl ?_
            refine JW.mget (v := vR 359) dX3_turn_82 fX3_37 rfl ?_
            refine JW.iconst dX3_turn_85 rfl ?_
            refine JW.iload_n dX3_turn_86 rfl ?_
            refine JW.imul dX3_turn_87 ?_
            obtain ⟨o_57, K⟩ := K
            refine JW.mald 7 (x := (f7 (i32 (2 * x1)))) dX3_turn_88 (Nat.le_of_ble_eq_true rfl) rfl o_57.1 o_57.2 rfl ?_
            refine JW.iload_n dX3_turn_89 rfl ?_
            refine JW.icmp_ne (tgt := 108) dX3_turn_90 rfl (fun c_58 => ?_) (fun c_58 => ?_)
            · have K := K.1 c_58
              refine JW.iconst dX3_turn_108 rfl ?_
              refine JW.goto (tgt := 113) dX3_turn_109 rfl ?_
              refine JW.istore (ls' := [(0, vR 351), (1, vI x1), (2, vI x2), (3, vI x3), (4, vI x3), (5, vI 1)]) dX3_turn_113 (Nat.le_of_ble_eq_true rfl) rfl ?_
              refine JW.aload_n dX3_turn_115 rfl ?_
              refine JW.mget (v := vR 359) dX3_turn_116 fX3_37 rfl ?_
              refine JW.iconst dX3_turn_119 rfl ?_
              refine JW.iload_n dX3_turn_120 rfl ?_
              refine JW.imul dX3_turn_121 ?_
              refine JW.iload_n dX3_turn_122 rfl ?_
              refine JW.mast 7 (f := f7) dX3_turn_123 (Nat.le_of_ble_eq_true rfl) rfl o_57.1 o_57.2 rfl ?_
              refine JW.steq (s2 := sS (sA s 7 (upI f7 (i32 (2 * x1)) x2)) 0 0) (by simp only [sA_A, sS_S, sA_S, sA_lt, sS_lt, Nat.reduceLT, id_eq] <;> rfl) ?_
              refine JW.aload_n dX3_turn_124 rfl ?_
              refine JW.mget (v := vR 359) dX3_turn_125 fX3_37 rfl ?_
              refine JW.iconst dX3_turn_128 rfl ?_
              refine JW.iload_n dX3_turn_129 rfl ?_
              refine JW.imul dX3_turn_130 ?_
              refine JW.iconst dX3_turn_131 rfl ?_
              refine JW.iadd dX3_turn_132 ?_
              refine JW.iload dX3_turn_133 rfl ?_
              obtain ⟨o_59, K⟩ := K
              refine JW.mast 7 (f := (upI f7 (i32 (2 * x1)) x2)) dX3_turn_135 (Nat.le_of_ble_eq_true rfl) rfl o_59.1 o_59.2 rfl ?_
              refine JW.steq (s2 := sS (sA s 7 (upI (upI f7 (i32 (2 * x1)) x2) (i32 ((i32 (2 * x1)) + 1)) x3)) 0 0) (by simp only [sA_A, sS_S, sA_S, sA_lt, sS_lt, Nat.reduceLT, id_eq] <;> rfl) ?_
              refine JW.iload dX3_turn_136 rfl ?_
              refine JW.if_eq (tgt := 145) dX3_turn_138 rfl (fun c => absurd c (by decide)) (fun _ => ?_)
              refine JW.iconst dX3_turn_141 rfl ?_
              refine JW.goto (tgt := 146) dX3_turn_142 rfl ?_
              exact JW.ireturn dX3_turn_146 rfl rfl ⟨_, rfl, K⟩
            · have K := K.2 c_58
              refine JW.aload_n dX3_turn_93 rfl ?_
              refine JW.mget (v := vR 359) dX3_turn_94 fX3_37 rfl ?_
              refine JW.iconst dX3_turn_97 rfl ?_
              refine JW.iload_n dX3_turn_98 rfl ?_
              refine JW.imul dX3_turn_99 ?_
              refine JW.iconst dX3_turn_100 rfl ?_
              refine JW.iadd dX3_turn_101 ?_
              obtain ⟨o_61, K⟩ := K
              refine JW.mald 7 (x := (f7 (i32 ((i32 (2 * x1)) + 1)))) dX3_turn_102 (Nat.le_of_ble_eq_true rfl) rfl o_61.1 o_61.2 rfl ?_
              refine JW.iload dX3_turn_103 rfl ?_
              refine JW.icmp_eq (tgt := 112) dX3_turn_105 rfl (fun c_62 => ?_) (fun c_62 => ?_)
              · have K := K.1 c_62
                refine JW.iconst dX3_turn_112 rfl ?_
                refine JW.istore (ls' := [(0, vR 351), (1, vI x1), (2, vI x2), (3, vI x3), (4, vI x3), (5, vI 0)]) dX3_turn_113 (Nat.le_of_ble_eq_true rfl) rfl ?_
                refine JW.aload_n dX3_turn_115 rfl ?_
                refine JW.mget (v := vR 359) dX3_turn_116 fX3_37 rfl ?_
                refine JW.iconst dX3_turn_119 rfl ?_
                refine JW.iload_n dX3_turn_120 rfl ?_
                refine JW.imul dX3_turn_121 ?_
                refine JW.iload_n dX3_turn_122 rfl ?_
                refine JW.mast 7 (f := f7) dX3_turn_123 (Nat.le_of_ble_eq_true rfl) rfl o_57.1 o_57.2 rfl ?_
                refine JW.steq (s2 := sS (sA s 7 (upI f7 (i32 (2 * x1)) x2)) 0 0) (by simp only [sA_A, sS_S, sA_S, sA_lt, sS_lt, Nat.reduceLT, id_eq] <;> rfl) ?_
                refine JW.aload_n dX3_turn_124 rfl ?_
                refine JW.mget (v := vR 359) dX3_turn_125 fX3_37 rfl ?_
                refine JW.iconst dX3_turn_128 rfl ?_
                refine JW.iload_n dX3_turn_129 rfl ?_
                refine JW.imul dX3_turn_130 ?_
                refine JW.iconst dX3_turn_131 rfl ?_
                refine JW.iadd dX3_turn_132 ?_
                refine JW.iload dX3_turn_133 rfl ?_
                refine JW.mast 7 (f := (upI f7 (i32 (2 * x1)) x2)) dX3_turn_135 (Nat.le_of_ble_eq_true rfl) rfl o_61.1 o_61.2 rfl ?_
                refine JW.steq (s2 := sS (sA s 7 (upI (upI f7 (i32 (2 * x1)) x2) (i32 ((i32 (2 * x1)) + 1)) x3)) 0 0) (by simp only [sA_A, sS_S, sA_S, sA_lt, sS_lt, Nat.reduceLT, id_eq] <;> rfl) ?_
                refine JW.iload dX3_turn_136 rfl ?_
                refine JW.if_eq (tgt := 145) dX3_turn_138 rfl (fun _ => ?_) (fun c => absurd c (by decide))
                refine JW.iconst dX3_turn_145 rfl ?_
                exact JW.ireturn dX3_turn_146 rfl rfl ⟨_, rfl, K⟩
              · have K := K.2 c_62
                refine JW.iconst dX3_turn_108 rfl ?_
                refine JW.goto (tgt := 113) dX3_turn_109 rfl ?_
                refine JW.istore (ls' := [(0, vR 351), (1, vI x1), (2, vI x2), (3, vI x3), (4, vI x3), (5, vI 1)]) dX3_turn_113 (Nat.le_of_ble_eq_true rfl) rfl ?_
                refine JW.aload_n dX3_turn_115 rfl ?_
                refine JW.mget (v := vR 359) dX3_turn_116 fX3_37 rfl ?_
                refine JW.iconst dX3_turn_119 rfl ?_
                refine JW.iload_n dX3_turn_120 rfl ?_
                refine JW.imul dX3_turn_121 ?_
                refine JW.iload_n dX3_turn_122 rfl ?_
                refine JW.mast 7 (f := f7) dX3_turn_123 (Nat.le_of_ble_eq_true rfl) rfl o_57.1 o_57.2 rfl ?_
                refine JW.steq (s2 := sS (sA s 7 (upI f7 (i32 (2 * x1)) x2)) 0 0) (by simp only [sA_A, sS_S, sA_S, sA_lt, sS_lt, Nat.reduceLT, id_eq] <;> rfl) ?_
                refine JW.aload_n dX3_turn_124 rfl ?_
                refine JW.mget (v := vR 359) dX3_turn_125 fX3_37 rfl ?_
                refine JW.iconst dX3_turn_128 rfl ?_
                refine JW.iload_n dX3_turn_129 rfl ?_
                refine JW.imul dX3_turn_130 ?_
                refine JW.iconst dX3_turn_131 rfl ?_
                refine JW.iadd dX3_turn_132 ?_
                refine JW.iload dX3_turn_133 rfl ?_
                refine JW.mast 7 (f := (upI f7 (i32 (2 * x1)) x2)) dX3_turn_135 (Nat.le_of_ble_eq_true rfl) rfl o_61.1 o_61.2 rfl ?_
                refine JW.steq (s2 := sS (sA s 7 (upI (upI f7 (i32 (2 * x1)) x2) (i32 ((i32 (2 * x1)) + 1)) x3)) 0 0) (by simp only [sA_A, sS_S, sA_S, sA_lt, sS_lt, Nat.reduceLT, id_eq] <;> rfl) ?_
                refine JW.iload dX3_turn_136 rfl ?_
                refine JW.if_eq (tgt := 145) dX3_turn_138 rfl (fun c => absurd c (by decide)) (fun _ => ?_)
                refine JW.iconst dX3_turn_141 rfl ?_
                refine JW.goto (tgt := 146) dX3_turn_142 rfl ?_
                exact JW.ireturn dX3_turn_146 rfl rfl ⟨_, rfl, K⟩
        · have K := K.2 c_47
          refine JW.bipush dX3_turn_65 rfl ?_
          exact JW.ireturn dX3_turn_67 rfl rfl ⟨_, rfl, K⟩
def QX3_turn (s : MS) (a1 : Int) (a2 : Int) (a3 : Int) : Option AV → MS → Prop := fun v s' => v = some (vI (rTurn (s.2 6) (s.2 7) a1 a2 a3)) ∧ s' = sS (sA s 7 (turnA (s.2 6) (s.2 7) a1 a2 a3)) 0 (0)
theorem vX3_turn_1 (s : MS) (a1 : Int) (a2 : Int) (a3 : Int) (hp : tOK (s.2 6)) : (tOK (s.2 6)) := by
  have hW := tOK_W hp
  have hB := tOK_B hp
  (try simp only [bI_0, bI_n, Classical.not_not] at *)
  (try simp (disch := omega) only [i32_id] at *)
  (try have q1 := turn_lo (h := s.2 6) (i := a1) (w := a2) (n := a3) (by omega))
  (try have q1 := turn_14 (h := s.2 6) (i := a1) (w := a2) (n := a3) (by omega))
  (try have q1 := turn_mid (h := s.2 6) (i := a1) (w := a2) (n := a3) (by omega))
  first
   | done
   | omega
   | assumption
   | (exact (turn_n (fun q => absurd q.1 (by assumption))).1.symm)
   | (exact (turn_n (fun q => absurd q.1 (by assumption))).2.symm)
   | (exact (turn_n (fun q => absurd q.2.1 (by assumption))).1.symm)
   | (exact (turn_n (fun q => absurd q.2.1 (by assumption))).2.symm)
   | (exact (turn_n (fun q => absurd (q1.1.mp q) (by omega))).1.symm)
   | (exact (turn_n (fun q => absurd (q1.1.mp q) (by omega))).2.symm)
   | (rw [(turn_y (q1.1.mpr (by omega))).1, q1.2])
   | (rw [(turn_y (q1.1.mpr (by omega))).2, q1.2]; first | (rw [if_neg (by omega)]) | (rw [if_pos (by omega)]))
theorem vX3_turn_2 (s : MS) (a1 : Int) (a2 : Int) (a3 : Int) (hp : tOK (s.2 6)) (o_1 : (tOK (s.2 6))) (c_3 : (bI (0 ≤ a1 ∧ a1 < (s.2 6) 3)) = 0) : (s.2 7) = (turnA (s.2 6) (s.2 7) a1 a2 a3) := by
  have hW := tOK_W hp
  have hB := tOK_B hp
  (try simp only [bI_0, bI_n, Classical.not_not] at *)
  (try simp (disch := omega) only [i32_id] at *)
  (try have q1 := turn_lo (h := s.2 6) (i := a1) (w := a2) (n := a3) (by omega))
  (try have q1 := turn_14 (h := s.2 6) (i := a1) (w := a2) (n := a3) (by omega))
  (try have q1 := turn_mid (h := s.2 6) (i := a1) (w := a2) (n := a3) (by omega))
  first
   | done
   | omega
   | assumption
   | (exact (turn_n (fun q => absurd q.1 (by assumption))).1.symm)
   | (exact (turn_n (fun q => absurd q.1 (by assumption))).2.symm)
   | (exact (turn_n (fun q => absurd q.2.1 (by assumption))).1.symm)
   | (exact (turn_n (fun q => absurd q.2.1 (by assumption))).2.symm)
   | (exact (turn_n (fun q => absurd (q1.1.mp q) (by omega))).1.symm)
   | (exact (turn_n (fun q => absurd (q1.1.mp q) (by omega))).2.symm)
   | (rw [(turn_y (q1.1.mpr (by omega))).1, q1.2])
   | (rw [(turn_y (q1.1.mpr (by omega))).2, q1.2]; first | (rw [if_neg (by omega)]) | (rw [if_pos (by omega)]))
theorem vX3_turn_3 (s : MS) (a1 : Int) (a2 : Int) (a3 : Int) (hp : tOK (s.2 6)) (o_1 : (tOK (s.2 6))) (c_3 : (bI (0 ≤ a1 ∧ a1 < (s.2 6) 3)) = 0) : (-2) = (rTurn (s.2 6) (s.2 7) a1 a2 a3) := by
  have hW := tOK_W hp
  have hB := tOK_B hp
  (try simp only [bI_0, bI_n, Classical.not_not] at *)
  (try simp (disch := omega) only [i32_id] at *)
  (try have q1 := turn_lo (h := s.2 6) (i := a1) (w := a2) (n := a3) (by omega))
  (try have q1 := turn_14 (h := s.2 6) (i := a1) (w := a2) (n := a3) (by omega))
  (try have q1 := turn_mid (h := s.2 6) (i := a1) (w := a2) (n := a3) (by omega))
  first
   | done
   | omega
   | assumption
   | (exact (turn_n (fun q => absurd q.1 (by assumption))).1.symm)
   | (exact (turn_n (fun q => absurd q.1 (by assumption))).2.symm)
   | (exact (turn_n (fun q => absurd q.2.1 (by assumption))).1.symm)
   | (exact (turn_n (fun q => absurd q.2.1 (by assumption))).2.symm)
   | (exact (turn_n (fun q => absurd (q1.1.mp q) (by omega))).1.symm)
   | (exact (turn_n (fun q => absurd (q1.1.mp q) (by omega))).2.symm)
   | (rw [(turn_y (q1.1.mpr (by omega))).1, q1.2])
   | (rw [(turn_y (q1.1.mpr (by omega))).2, q1.2]; first | (rw [if_neg (by omega)]) | (rw [if_pos (by omega)]))
theorem vX3_turn_4 (s : MS) (a1 : Int) (a2 : Int) (a3 : Int) (hp : tOK (s.2 6)) (o_1 : (tOK (s.2 6))) (c_3 : ¬ (bI (0 ≤ a1 ∧ a1 < (s.2 6) 3)) = 0) (c_5 : (bI ((0 : Int) ≤ a2 ∧ a2 ≤ (14 : Int))) = 0) : (s.2 7) = (turnA (s.2 6) (s.2 7) a1 a2 a3) := by
  have hW := tOK_W hp
  have hB := tOK_B hp
  (try simp only [bI_0, bI_n, Classical.not_not] at *)
  (try simp (disch := omega) only [i32_id] at *)
  (try have q1 := turn_lo (h := s.2 6) (i := a1) (w := a2) (n := a3) (by omega))
  (try have q1 := turn_14 (h := s.2 6) (i := a1) (w := a2) (n := a3) (by omega))
  (try have q1 := turn_mid (h := s.2 6) (i := a1) (w := a2) (n := a3) (by omega))
  first
   | done
   | omega
   | assumption
   | (exact (turn_n (fun q => absurd q.1 (by assumption))).1.symm)
   | (exact (turn_n (fun q => absurd q.1 (by assumption))).2.symm)
   | (exact (turn_n (fun q => absurd q.2.1 (by assumption))).1.symm)
   | (exact (turn_n (fun q => absurd q.2.1 (by assumption))).2.symm)
   | (exact (turn_n (fun q => absurd (q1.1.mp q) (by omega))).1.symm)
   | (exact (turn_n (fun q => absurd (q1.1.mp q) (by omega))).2.symm)
   | (rw [(turn_y (q1.1.mpr (by omega))).1, q1.2])
   | (rw [(turn_y (q1.1.mpr (by omega))).2, q1.2]; first | (rw [if_neg (by omega)]) | (rw [if_pos (by omega)]))
theorem vX3_turn_5 (s : MS) (a1 : Int) (a2 : Int) (a3 : Int) (hp : tOK (s.2 6)) (o_1 : (tOK (s.2 6))) (c_3 : ¬ (bI (0 ≤ a1 ∧ a1 < (s.2 6) 3)) = 0) (c_5 : (bI ((0 : Int) ≤ a2 ∧ a2 ≤ (14 : Int))) = 0) : (-2) = (rTurn (s.2 6) (s.2 7) a1 a2 a3) := by
  have hW := tOK_W hp
  have hB := tOK_B hp
  (try simp only [bI_0, bI_n, Classical.not_not] at *)
  (try simp (disch := omega) only [i32_id] at *)
  (try have q1 := turn_lo (h := s.2 6) (i := a1) (w := a2) (n := a3) (by omega))
  (try have q1 := turn_14 (h := s.2 6) (i := a1) (w := a2) (n := a3) (by omega))
  (try have q1 := turn_mid (h := s.2 6) (i := a1) (w := a2) (n := a3) (by omega))
  first
   | done
   | omega
   | assumption
   | (exact (turn_n (fun q => absurd q.1 (by assumption))).1.symm)
   | (exact (turn_n (fun q => absurd q.1 (by assumption))).2.symm)
   | (exact (turn_n (fun q => absurd q.2.1 (by assumption))).1.symm)
   | (exact (turn_n (fun q => absurd q.2.1 (by assumption))).2.symm)
   | (exact (turn_n (fun q => absurd (q1.1.mp q) (by omega))).1.symm)
   | (exact (turn_n (fun q => absurd (q1.1.mp q) (by omega))).2.symm)
   | (rw [(turn_y (q1.1.mpr (by omega))).1, q1.2])
   | (rw [(turn_y (q1.1.mpr (by omega))).2, q1.2]; first | (rw [if_neg (by omega)]) | (rw [if_pos (by omega)]))
theorem vX3_turn_6 (s : MS) (a1 : Int) (a2 : Int) (a3 : Int) (hp : tOK (s.2 6)) (o_1 : (tOK (s.2 6))) (c_3 : ¬ (bI (0 ≤ a1 ∧ a1 < (s.2 6) 3)) = 0) (c_5 : ¬ (bI ((0 : Int) ≤ a2 ∧ a2 ≤ (14 : Int))) = 0) (c_6 : ¬ a2 = 14) (c_7 : a2 < 12) (c_9 : ¬ (bI ((0 : Int) ≤ a3 ∧ a3 ≤ (0 : Int))) = 0) (c_10 : a2 < 12) : (0 ≤ (i32 (2 * a1)) ∧ (i32 (2 * a1)) < 120) := by
  have hW := tOK_W hp
  have hB := tOK_B hp
  (try simp only [bI_0, bI_n, Classical.not_not] at *)
  (try simp (disch := omega) only [i32_id] at *)
  (try have q1 := turn_lo (h := s.2 6) (i := a1) (w := a2) (n := a3) (by omega))
  (try have q1 := turn_14 (h := s.2 6) (i := a1) (w := a2) (n := a3) (by omega))
  (try have q1 := turn_mid (h := s.2 6) (i := a1) (w := a2) (n := a3) (by omega))
  first
   | done
   | omega
   | assumption
   | (exact (turn_n (fun q => absurd q.1 (by assumption))).1.symm)
   | (exact (turn_n (fun q => absurd q.1 (by assumption))).2.symm)
   | (exact (turn_n (fun q => absurd q.2.1 (by assumption))).1.symm)
   | (exact (turn_n (fun q => absurd q.2.1 (by assumption))).2.symm)
   | (exact (turn_n (fun q => absurd (q1.1.mp q) (by omega))).1.symm)
   | (exact (turn_n (fun q => absurd (q1.1.mp q) (by omega))).2.symm)
   | (rw [(turn_y (q1.1.mpr (by omega))).1, q1.2])
   | (rw [(turn_y (q1.1.mpr (by omega))).2, q1.2]; first | (rw [if_neg (by omega)]) | (rw [if_pos (by omega)]))
theorem vX3_turn_7 (s : MS) (a1 : Int) (a2 : Int) (a3 : Int) (hp : tOK (s.2 6)) (o_1 : (tOK (s.2 6))) (c_3 : ¬ (bI (0 ≤ a1 ∧ a1 < (s.2 6) 3)) = 0) (c_5 : ¬ (bI ((0 : Int) ≤ a2 ∧ a2 ≤ (14 : Int))) = 0) (c_6 : ¬ a2 = 14) (c_7 : a2 < 12) (c_9 : ¬ (bI ((0 : Int) ≤ a3 ∧ a3 ≤ (0 : Int))) = 0) (c_10 : a2 < 12) (o_11 : (0 ≤ (i32 (2 * a1)) ∧ (i32 (2 * a1)) < 120)) (c_12 : ¬ ((s.2 7) (i32 (2 * a1))) = a2) : (0 ≤ (i32 ((i32 (2 * a1)) + 1)) ∧ (i32 ((i32 (2 * a1)) + 1)) < 120) := by
  have hW := tOK_W hp
  have hB := tOK_B hp
  (try simp only [bI_0, bI_n, Classical.not_not] at *)
  (try simp (disch := omega) only [i32_id] at *)
  (try have q1 := turn_lo (h := s.2 6) (i := a1) (w := a2) (n := a3) (by omega))
  (try have q1 := turn_14 (h := s.2 6) (i := a1) (w := a2) (n := a3) (by omega))
  (try have q1 := turn_mid (h := s.2 6) (i := a1) (w := a2) (n := a3) (by omega))
  first
   | done
   | omega
   | assumption
   | (exact (turn_n (fun q => absurd q.1 (by assumption))).1.symm)
   | (exact (turn_n (fun q => absurd q.1 (by assumption))).2.symm)
   | (exact (turn_n (fun q => absurd q.2.1 (by assumption))).1.symm)
   | (exact (turn_n (fun q => absurd q.2.1 (by assumption))).2.symm)
   | (exact (turn_n (fun q => absurd (q1.1.mp q) (by omega))).1.symm)
   | (exact (turn_n (fun q => absurd (q1.1.mp q) (by omega))).2.symm)
   | (rw [(turn_y (q1.1.mpr (by omega))).1, q1.2])
   | (rw [(turn_y (q1.1.mpr (by omega))).2, q1.2]; first | (rw [if_neg (by omega)]) | (rw [if_pos (by omega)]))
theorem vX3_turn_8 (s : MS) (a1 : Int) (a2 : Int) (a3 : Int) (hp : tOK (s.2 6)) (o_1 : (tOK (s.2 6))) (c_3 : ¬ (bI (0 ≤ a1 ∧ a1 < (s.2 6) 3)) = 0) (c_5 : ¬ (bI ((0 : Int) ≤ a2 ∧ a2 ≤ (14 : Int))) = 0) (c_6 : ¬ a2 = 14) (c_7 : a2 < 12) (c_9 : ¬ (bI ((0 : Int) ≤ a3 ∧ a3 ≤ (0 : Int))) = 0) (c_10 : a2 < 12) (o_11 : (0 ≤ (i32 (2 * a1)) ∧ (i32 (2 * a1)) < 120)) (c_12 : ¬ ((s.2 7) (i32 (2 * a1))) = a2) (o_13 : (0 ≤ (i32 ((i32 (2 * a1)) + 1)) ∧ (i32 ((i32 (2 * a1)) + 1)) < 120)) : (upI (upI (s.2 7) (i32 (2 * a1)) a2) (i32 ((i32 (2 * a1)) + 1)) (-1)) = (turnA (s.2 6) (s.2 7) a1 a2 a3) := by
  have hW := tOK_W hp
  have hB := tOK_B hp
  (try simp only [bI_0, bI_n, Classical.not_not] at *)
  (try simp (disch := omega) only [i32_id] at *)
  (try have q1 := turn_lo (h := s.2 6) (i := a1) (w := a2) (n := a3) (by omega))
  (try have q1 := turn_14 (h := s.2 6) (i := a1) (w := a2) (n := a3) (by omega))
  (try have q1 := turn_mid (h := s.2 6) (i := a1) (w := a2) (n := a3) (by omega))
  first
   | done
   | omega
   | assumption
   | (exact (turn_n (fun q => absurd q.1 (by assumption))).1.symm)
   | (exact (turn_n (fun q => absurd q.1 (by assumption))).2.symm)
   | (exact (turn_n (fun q => absurd q.2.1 (by assumption))).1.symm)
   | (exact (turn_n (fun q => absurd q.2.1 (by assumption))).2.symm)
   | (exact (turn_n (fun q => absurd (q1.1.mp q) (by omega))).1.symm)
   | (exact (turn_n (fun q => absurd (q1.1.mp q) (by omega))).2.symm)
   | (rw [(turn_y (q1.1.mpr (by omega))).1, q1.2])
   | (rw [(turn_y (q1.1.mpr (by omega))).2, q1.2]; first | (rw [if_neg (by omega)]) | (rw [if_pos (by omega)]))
theorem vX3_turn_9 (s : MS) (a1 : Int) (a2 : Int) (a3 : Int) (hp : tOK (s.2 6)) (o_1 : (tOK (s.2 6))) (c_3 : ¬ (bI (0 ≤ a1 ∧ a1 < (s.2 6) 3)) = 0) (c_5 : ¬ (bI ((0 : Int) ≤ a2 ∧ a2 ≤ (14 : Int))) = 0) (c_6 : ¬ a2 = 14) (c_7 : a2 < 12) (c_9 : ¬ (bI ((0 : Int) ≤ a3 ∧ a3 ≤ (0 : Int))) = 0) (c_10 : a2 < 12) (o_11 : (0 ≤ (i32 (2 * a1)) ∧ (i32 (2 * a1)) < 120)) (c_12 : ¬ ((s.2 7) (i32 (2 * a1))) = a2) (o_13 : (0 ≤ (i32 ((i32 (2 * a1)) + 1)) ∧ (i32 ((i32 (2 * a1)) + 1)) < 120)) : 1 = (rTurn (s.2 6) (s.2 7) a1 a2 a3) := by
  have hW := tOK_W hp
  have hB := tOK_B hp
  (try simp only [bI_0, bI_n, Classical.not_not] at *)
  (try simp (disch := omega) only [i32_id] at *)
  (try have q1 := turn_lo (h := s.2 6) (i := a1) (w := a2) (n := a3) (by omega))
  (try have q1 := turn_14 (h := s.2 6) (i := a1) (w := a2) (n := a3) (by omega))
  (try have q1 := turn_mid (h := s.2 6) (i := a1) (w := a2) (n := a3) (by omega))
  first
   | done
   | omega
   | assumption
   | (exact (turn_n (fun q => absurd q.1 (by assumption))).1.symm)
   | (exact (turn_n (fun q => absurd q.1 (by assumption))).2.symm)
   | (exact (turn_n (fun q => absurd q.2.1 (by assumption))).1.symm)
   | (exact (turn_n (fun q => absurd q.2.1 (by assumption))).2.symm)
   | (exact (turn_n (fun q => absurd (q1.1.mp q) (by omega))).1.symm)
   | (exact (turn_n (fun q => absurd (q1.1.mp q) (by omega))).2.symm)
   | (rw [(turn_y (q1.1.mpr (by omega))).1, q1.2])
   | (rw [(turn_y (q1.1.mpr (by omega))).2, q1.2]; first | (rw [if_neg (by omega)]) | (rw [if_pos (by omega)]))
theorem vX3_turn_10 (s : MS) (a1 : Int) (a2 : Int) (a3 : Int) (hp : tOK (s.2 6)) (o_1 : (tOK (s.2 6))) (c_3 : ¬ (bI (0 ≤ a1 ∧ a1 < (s.2 6) 3)) = 0) (c_5 : ¬ (bI ((0 : Int) ≤ a2 ∧ a2 ≤ (14 : Int))) = 0) (c_6 : ¬ a2 = 14) (c_7 : a2 < 12) (c_9 : ¬ (bI ((0 : Int) ≤ a3 ∧ a3 ≤ (0 : Int))) = 0) (c_10 : a2 < 12) (o_11 : (0 ≤ (i32 (2 * a1)) ∧ (i32 (2 * a1)) < 120)) (c_12 : ((s.2 7) (i32 (2 * a1))) = a2) : (0 ≤ (i32 ((i32 (2 * a1)) + 1)) ∧ (i32 ((i32 (2 * a1)) + 1)) < 120) := by
  have hW := tOK_W hp
  have hB := tOK_B hp
  (try simp only [bI_0, bI_n, Classical.not_not] at *)
  (try simp (disch := omega) only [i32_id] at *)
  (try have q1 := turn_lo (h := s.2 6) (i := a1) (w := a2) (n := a3) (by omega))
  (try have q1 := turn_14 (h := s.2 6) (i := a1) (w := a2) (n := a3) (by omega))
  (try have q1 := turn_mid (h := s.2 6) (i := a1) (w := a2) (n := a3) (by omega))
  first
   | done
   | omega
   | assumption
   | (exact (turn_n (fun q => absurd q.1 (by assumption))).1.symm)
   | (exact (turn_n (fun q => absurd q.1 (by assumption))).2.symm)
   | (exact (turn_n (fun q => absurd q.2.1 (by assumption))).1.symm)
   | (exact (turn_n (fun q => absurd q.2.1 (by assumption))).2.symm)
   | (exact (turn_n (fun q => absurd (q1.1.mp q) (by omega))).1.symm)
   | (exact (turn_n (fun q => absurd (q1.1.mp q) (by omega))).2.symm)
   | (rw [(turn_y (q1.1.mpr (by omega))).1, q1.2])
   | (rw [(turn_y (q1.1.mpr (by omega))).2, q1.2]; first | (rw [if_neg (by omega)]) | (rw [if_pos (by omega)]))
theorem vX3_turn_11 (s : MS) (a1 : Int) (a2 : Int) (a3 : Int) (hp : tOK (s.2 6)) (o_1 : (tOK (s.2 6))) (c_3 : ¬ (bI (0 ≤ a1 ∧ a1 < (s.2 6) 3)) = 0) (c_5 : ¬ (bI ((0 : Int) ≤ a2 ∧ a2 ≤ (14 : Int))) = 0) (c_6 : ¬ a2 = 14) (c_7 : a2 < 12) (c_9 : ¬ (bI ((0 : Int) ≤ a3 ∧ a3 ≤ (0 : Int))) = 0) (c_10 : a2 < 12) (o_11 : (0 ≤ (i32 (2 * a1)) ∧ (i32 (2 * a1)) < 120)) (c_12 : ((s.2 7) (i32 (2 * a1))) = a2) (o_15 : (0 ≤ (i32 ((i32 (2 * a1)) + 1)) ∧ (i32 ((i32 (2 * a1)) + 1)) < 120)) (c_16 : ((s.2 7) (i32 ((i32 (2 * a1)) + 1))) = (-1)) : (upI (upI (s.2 7) (i32 (2 * a1)) a2) (i32 ((i32 (2 * a1)) + 1)) (-1)) = (turnA (s.2 6) (s.2 7) a1 a2 a3) := by
  have hW := tOK_W hp
  have hB := tOK_B hp
  (try simp only [bI_0, bI_n, Classical.not_not] at *)
  (try simp (disch := omega) only [i32_id] at *)
  (try have q1 := turn_lo (h := s.2 6) (i := a1) (w := a2) (n := a3) (by omega))
  (try have q1 := turn_14 (h := s.2 6) (i := a1) (w := a2) (n := a3) (by omega))
  (try have q1 := turn_mid (h := s.2 6) (i := a1) (w := a2) (n := a3) (by omega))
  first
   | done
   | omega
   | assumption
   | (exact (turn_n (fun q => absurd q.1 (by assumption))).1.symm)
   | (exact (turn_n (fun q => absurd q.1 (by assumption))).2.symm)
   | (exact (turn_n (fun q => absurd q.2.1 (by assumption))).1.symm)
   | (exact (turn_n (fun q => absurd q.2.1 (by assumption))).2.symm)
   | (exact (turn_n (fun q => absurd (q1.1.mp q) (by omega))).1.symm)
   | (exact (turn_n (fun q => absurd (q1.1.mp q) (by omega))).2.symm)
   | (rw [(turn_y (q1.1.mpr (by omega))).1, q1.2])
   | (rw [(turn_y (q1.1.mpr (by omega))).2, q1.2]; first | (rw [if_neg (by omega)]) | (rw [if_pos (by omega)]))
theorem vX3_turn_12 (s : MS) (a1 : Int) (a2 : Int) (a3 : Int) (hp : tOK (s.2 6)) (o_1 : (tOK (s.2 6))) (c_3 : ¬ (bI (0 ≤ a1 ∧ a1 < (s.2 6) 3)) = 0) (c_5 : ¬ (bI ((0 : Int) ≤ a2 ∧ a2 ≤ (14 : Int))) = 0) (c_6 : ¬ a2 = 14) (c_7 : a2 < 12) (c_9 : ¬ (bI ((0 : Int) ≤ a3 ∧ a3 ≤ (0 : Int))) = 0) (c_10 : a2 < 12) (o_11 : (0 ≤ (i32 (2 * a1)) ∧ (i32 (2 * a1)) < 120)) (c_12 : ((s.2 7) (i32 (2 * a1))) = a2) (o_15 : (0 ≤ (i32 ((i32 (2 * a1)) + 1)) ∧ (i32 ((i32 (2 * a1)) + 1)) < 120)) (c_16 : ((s.2 7) (i32 ((i32 (2 * a1)) + 1))) = (-1)) : 0 = (rTurn (s.2 6) (s.2 7) a1 a2 a3) := by
  have hW := tOK_W hp
  have hB := tOK_B hp
  (try simp only [bI_0, bI_n, Classical.not_not] at *)
  (try simp (disch := omega) only [i32_id] at *)
  (try have q1 := turn_lo (h := s.2 6) (i := a1) (w := a2) (n := a3) (by omega))
  (try have q1 := turn_14 (h := s.2 6) (i := a1) (w := a2) (n := a3) (by omega))
  (try have q1 := turn_mid (h := s.2 6) (i := a1) (w := a2) (n := a3) (by omega))
  first
   | done
   | omega
   | assumption
   | (exact (turn_n (fun q => absurd q.1 (by assumption))).1.symm)
   | (exact (turn_n (fun q => absurd q.1 (by assumption))).2.symm)
   | (exact (turn_n (fun q => absurd q.2.1 (by assumption))).1.symm)
   | (exact (turn_n (fun q => absurd q.2.1 (by assumption))).2.symm)
   | (exact (turn_n (fun q => absurd (q1.1.mp q) (by omega))).1.symm)
   | (exact (turn_n (fun q => absurd (q1.1.mp q) (by omega))).2.symm)
   | (rw [(turn_y (q1.1.mpr (by omega))).1, q1.2])
   | (rw [(turn_y (q1.1.mpr (by omega))).2, q1.2]; first | (rw [if_neg (by omega)]) | (rw [if_pos (by omega)]))
theorem vX3_turn_13 (s : MS) (a1 : Int) (a2 : Int) (a3 : Int) (hp : tOK (s.2 6)) (o_1 : (tOK (s.2 6))) (c_3 : ¬ (bI (0 ≤ a1 ∧ a1 < (s.2 6) 3)) = 0) (c_5 : ¬ (bI ((0 : Int) ≤ a2 ∧ a2 ≤ (14 : Int))) = 0) (c_6 : ¬ a2 = 14) (c_7 : a2 < 12) (c_9 : ¬ (bI ((0 : Int) ≤ a3 ∧ a3 ≤ (0 : Int))) = 0) (c_10 : a2 < 12) (o_11 : (0 ≤ (i32 (2 * a1)) ∧ (i32 (2 * a1)) < 120)) (c_12 : ((s.2 7) (i32 (2 * a1))) = a2) (o_15 : (0 ≤ (i32 ((i32 (2 * a1)) + 1)) ∧ (i32 ((i32 (2 * a1)) + 1)) < 120)) (c_16 : ¬ ((s.2 7) (i32 ((i32 (2 * a1)) + 1))) = (-1)) : (upI (upI (s.2 7) (i32 (2 * a1)) a2) (i32 ((i32 (2 * a1)) + 1)) (-1)) = (turnA (s.2 6) (s.2 7) a1 a2 a3) := by
  have hW := tOK_W hp
  have hB := tOK_B hp
  (try simp only [bI_0, bI_n, Classical.not_not] at *)
  (try simp (disch := omega) only [i32_id] at *)
  (try have q1 := turn_lo (h := s.2 6) (i := a1) (w := a2) (n := a3) (by omega))
  (try have q1 := turn_14 (h := s.2 6) (i := a1) (w := a2) (n := a3) (by omega))
  (try have q1 := turn_mid (h := s.2 6) (i := a1) (w := a2) (n := a3) (by omega))
  first
   | done
   | omega
   | assumption
   | (exact (turn_n (fun q => absurd q.1 (by assumption))).1.symm)
   | (exact (turn_n (fun q => absurd q.1 (by assumption))).2.symm)
   | (exact (turn_n (fun q => absurd q.2.1 (by assumption))).1.symm)
   | (exact (turn_n (fun q => absurd q.2.1 (by assumption))).2.symm)
   | (exact (turn_n (fun q => absurd (q1.1.mp q) (by omega))).1.symm)
   | (exact (turn_n (fun q => absurd (q1.1.mp q) (by omega))).2.symm)
   | (rw [(turn_y (q1.1.mpr (by omega))).1, q1.2])
   | (rw [(turn_y (q1.1.mpr (by omega))).2, q1.2]; first | (rw [if_neg (by omega)]) | (rw [if_pos (by omega)]))
theorem vX3_turn_14 (s : MS) (a1 : Int) (a2 : Int) (a3 : Int) (hp : tOK (s.2 6)) (o_1 : (tOK (s.2 6))) (c_3 : ¬ (bI (0 ≤ a1 ∧ a1 < (s.2 6) 3)) = 0) (c_5 : ¬ (bI ((0 : Int) ≤ a2 ∧ a2 ≤ (14 : Int))) = 0) (c_6 : ¬ a2 = 14) (c_7 : a2 < 12) (c_9 : ¬ (bI ((0 : Int) ≤ a3 ∧ a3 ≤ (0 : Int))) = 0) (c_10 : a2 < 12) (o_11 : (0 ≤ (i32 (2 * a1)) ∧ (i32 (2 * a1)) < 120)) (c_12 : ((s.2 7) (i32 (2 * a1))) = a2) (o_15 : (0 ≤ (i32 ((i32 (2 * a1)) + 1)) ∧ (i32 ((i32 (2 * a1)) + 1)) < 120)) (c_16 : ¬ ((s.2 7) (i32 ((i32 (2 * a1)) + 1))) = (-1)) : 1 = (rTurn (s.2 6) (s.2 7) a1 a2 a3) := by
  have hW := tOK_W hp
  have hB := tOK_B hp
  (try simp only [bI_0, bI_n, Classical.not_not] at *)
  (try simp (disch := omega) only [i32_id] at *)
  (try have q1 := turn_lo (h := s.2 6) (i := a1) (w := a2) (n := a3) (by omega))
  (try have q1 := turn_14 (h := s.2 6) (i := a1) (w := a2) (n := a3) (by omega))
  (try have q1 := turn_mid (h := s.2 6) (i := a1) (w := a2) (n := a3) (by omega))
  first
   | done
   | omega
   | assumption
   | (exact (turn_n (fun q => absurd q.1 (by assumption))).1.symm)
   | (exact (turn_n (fun q => absurd q.1 (by assumption))).2.symm)
   | (exact (turn_n (fun q => absurd q.2.1 (by assumption))).1.symm)
   | (exact (turn_n (fun q => absurd q.2.1 (by assumption))).2.symm)
   | (exact (turn_n (fun q => absurd (q1.1.mp q) (by omega))).1.symm)
   | (exact (turn_n (fun q => absurd (q1.1.mp q) (by omega))).2.symm)
   | (rw [(turn_y (q1.1.mpr (by omega))).1, q1.2])
   | (rw [(turn_y (q1.1.mpr (by omega))).2, q1.2]; first | (rw [if_neg (by omega)]) | (rw [if_pos (by omega)]))
theorem vX3_turn_15 (s : MS) (a1 : Int) (a2 : Int) (a3 : Int) (hp : tOK (s.2 6)) (o_1 : (tOK (s.2 6))) (c_3 : ¬ (bI (0 ≤ a1 ∧ a1 < (s.2 6) 3)) = 0) (c_5 : ¬ (bI ((0 : Int) ≤ a2 ∧ a2 ≤ (14 : Int))) = 0) (c_6 : ¬ a2 = 14) (c_7 : a2 < 12) (c_9 : ¬ (bI ((0 : Int) ≤ a3 ∧ a3 ≤ (0 : Int))) = 0) (c_10 : ¬ a2 < 12) : (0 ≤ (i32 (2 * a1)) ∧ (i32 (2 * a1)) < 120) := by
  have hW := tOK_W hp
  have hB := tOK_B hp
  (try simp only [bI_0, bI_n, Classical.not_not] at *)
  (try simp (disch := omega) only [i32_id] at *)
  (try have q1 := turn_lo (h := s.2 6) (i := a1) (w := a2) (n := a3) (by omega))
  (try have q1 := turn_14 (h := s.2 6) (i := a1) (w := a2) (n := a3) (by omega))
  (try have q1 := turn_mid (h := s.2 6) (i := a1) (w := a2) (n := a3) (by omega))
  first
   | done
   | omega
   | assumption
   | (exact (turn_n (fun q => absurd q.1 (by assumption))).1.symm)
   | (exact (turn_n (fun q => absurd q.1 (by assumption))).2.symm)
   | (exact (turn_n (fun q => absurd q.2.1 (by assumption))).1.symm)
   | (exact (turn_n (fun q => absurd q.2.1 (by assumption))).2.symm)
   | (exact (turn_n (fun q => absurd (q1.1.mp q) (by omega))).1.symm)
   | (exact (turn_n (fun q => absurd (q1.1.mp q) (by omega))).2.symm)
   | (rw [(turn_y (q1.1.mpr (by omega))).1, q1.2])
   | (rw [(turn_y (q1.1.mpr (by omega))).2, q1.2]; first | (rw [if_neg (by omega)]) | (rw [if_pos (by omega)]))
theorem vX3_turn_16 (s : MS) (a1 : Int) (a2 : Int) (a3 : Int) (hp : tOK (s.2 6)) (o_1 : (tOK (s.2 6))) (c_3 : ¬ (bI (0 ≤ a1 ∧ a1 < (s.2 6) 3)) = 0) (c_5 : ¬ (bI ((0 : Int) ≤ a2 ∧ a2 ≤ (14 : Int))) = 0) (c_6 : ¬ a2 = 14) (c_7 : a2 < 12) (c_9 : ¬ (bI ((0 : Int) ≤ a3 ∧ a3 ≤ (0 : Int))) = 0) (c_10 : ¬ a2 < 12) (o_19 : (0 ≤ (i32 (2 * a1)) ∧ (i32 (2 * a1)) < 120)) (c_20 : ¬ ((s.2 7) (i32 (2 * a1))) = a2) : (0 ≤ (i32 ((i32 (2 * a1)) + 1)) ∧ (i32 ((i32 (2 * a1)) + 1)) < 120) := by
  have hW := tOK_W hp
  have hB := tOK_B hp
  (try simp only [bI_0, bI_n, Classical.not_not] at *)
  (try simp (disch := omega) only [i32_id] at *)
  (try have q1 := turn_lo (h := s.2 6) (i := a1) (w := a2) (n := a3) (by omega))
  (try have q1 := turn_14 (h := s.2 6) (i := a1) (w := a2) (n := a3) (by omega))
  (try have q1 := turn_mid (h := s.2 6) (i := a1) (w := a2) (n := a3) (by omega))
  first
   | done
   | omega
   | assumption
   | (exact (turn_n (fun q => absurd q.1 (by assumption))).1.symm)
   | (exact (turn_n (fun q => absurd q.1 (by assumption))).2.symm)
   | (exact (turn_n (fun q => absurd q.2.1 (by assumption))).1.symm)
   | (exact (turn_n (fun q => absurd q.2.1 (by assumption))).2.symm)
   | (exact (turn_n (fun q => absurd (q1.1.mp q) (by omega))).1.symm)
   | (exact (turn_n (fun q => absurd (q1.1.mp q) (by omega))).2.symm)
   | (rw [(turn_y (q1.1.mpr (by omega))).1, q1.2])
   | (rw [(turn_y (q1.1.mpr (by omega))).2, q1.2]; first | (rw [if_neg (by omega)]) | (rw [if_pos (by omega)]))
theorem vX3_turn_17 (s : MS) (a1 : Int) (a2 : Int) (a3 : Int) (hp : tOK (s.2 6)) (o_1 : (tOK (s.2 6))) (c_3 : ¬ (bI (0 ≤ a1 ∧ a1 < (s.2 6) 3)) = 0) (c_5 : ¬ (bI ((0 : Int) ≤ a2 ∧ a2 ≤ (14 : Int))) = 0) (c_6 : ¬ a2 = 14) (c_7 : a2 < 12) (c_9 : ¬ (bI ((0 : Int) ≤ a3 ∧ a3 ≤ (0 : Int))) = 0) (c_10 : ¬ a2 < 12) (o_19 : (0 ≤ (i32 (2 * a1)) ∧ (i32 (2 * a1)) < 120)) (c_20 : ¬ ((s.2 7) (i32 (2 * a1))) = a2) (o_21 : (0 ≤ (i32 ((i32 (2 * a1)) + 1)) ∧ (i32 ((i32 (2 * a1)) + 1)) < 120)) : (upI (upI (s.2 7) (i32 (2 * a1)) a2) (i32 ((i32 (2 * a1)) + 1)) a3) = (turnA (s.2 6) (s.2 7) a1 a2 a3) := by
  have hW := tOK_W hp
  have hB := tOK_B hp
  (try simp only [bI_0, bI_n, Classical.not_not] at *)
  (try simp (disch := omega) only [i32_id] at *)
  (try have q1 := turn_lo (h := s.2 6) (i := a1) (w := a2) (n := a3) (by omega))
  (try have q1 := turn_14 (h := s.2 6) (i := a1) (w := a2) (n := a3) (by omega))
  (try have q1 := turn_mid (h := s.2 6) (i := a1) (w := a2) (n := a3) (by omega))
  first
   | done
   | omega
   | assumption
   | (exact (turn_n (fun q => absurd q.1 (by assumption))).1.symm)
   | (exact (turn_n (fun q => absurd q.1 (by assumption))).2.symm)
   | (exact (turn_n (fun q => absurd q.2.1 (by assumption))).1.symm)
   | (exact (turn_n (fun q => absurd q.2.1 (by assumption))).2.symm)
   | (exact (turn_n (fun q => absurd (q1.1.mp q) (by omega))).1.symm)
   | (exact (turn_n (fun q => absurd (q1.1.mp q) (by omega))).2.symm)
   | (rw [(turn_y (q1.1.mpr (by omega))).1, q1.2])
   | (rw [(turn_y (q1.1.mpr (by omega))).2, q1.2]; first | (rw [if_neg (by omega)]) | (rw [if_pos (by omega)]))
theorem vX3_turn_18 (s : MS) (a1 : Int) (a2 : Int) (a3 : Int) (hp : tOK (s.2 6)) (o_1 : (tOK (s.2 6))) (c_3 : ¬ (bI (0 ≤ a1 ∧ a1 < (s.2 6) 3)) = 0) (c_5 : ¬ (bI ((0 : Int) ≤ a2 ∧ a2 ≤ (14 : Int))) = 0) (c_6 : ¬ a2 = 14) (c_7 : a2 < 12) (c_9 : ¬ (bI ((0 : Int) ≤ a3 ∧ a3 ≤ (0 : Int))) = 0) (c_10 : ¬ a2 < 12) (o_19 : (0 ≤ (i32 (2 * a1)) ∧ (i32 (2 * a1)) < 120)) (c_20 : ¬ ((s.2 7) (i32 (2 * a1))) = a2) (o_21 : (0 ≤ (i32 ((i32 (2 * a1)) + 1)) ∧ (i32 ((i32 (2 * a1)) + 1)) < 120)) : 1 = (rTurn (s.2 6) (s.2 7) a1 a2 a3) := by
  have hW := tOK_W hp
  have hB := tOK_B hp
  (try simp only [bI_0, bI_n, Classical.not_not] at *)
  (try simp (disch := omega) only [i32_id] at *)
  (try have q1 := turn_lo (h := s.2 6) (i := a1) (w := a2) (n := a3) (by omega))
  (try have q1 := turn_14 (h := s.2 6) (i := a1) (w := a2) (n := a3) (by omega))
  (try have q1 := turn_mid (h := s.2 6) (i := a1) (w := a2) (n := a3) (by omega))
  first
   | done
   | omega
   | assumption
   | (exact (turn_n (fun q => absurd q.1 (by assumption))).1.symm)
   | (exact (turn_n (fun q => absurd q.1 (by assumption))).2.symm)
   | (exact (turn_n (fun q => absurd q.2.1 (by assumption))).1.symm)
   | (exact (turn_n (fun q => absurd q.2.1 (by assumption))).2.symm)
   | (exact (turn_n (fun q => absurd (q1.1.mp q) (by omega))).1.symm)
   | (exact (turn_n (fun q => absurd (q1.1.mp q) (by omega))).2.symm)
   | (rw [(turn_y (q1.1.mpr (by omega))).1, q1.2])
   | (rw [(turn_y (q1.1.mpr (by omega))).2, q1.2]; first | (rw [if_neg (by omega)]) | (rw [if_pos (by omega)]))
theorem vX3_turn_19 (s : MS) (a1 : Int) (a2 : Int) (a3 : Int) (hp : tOK (s.2 6)) (o_1 : (tOK (s.2 6))) (c_3 : ¬ (bI (0 ≤ a1 ∧ a1 < (s.2 6) 3)) = 0) (c_5 : ¬ (bI ((0 : Int) ≤ a2 ∧ a2 ≤ (14 : Int))) = 0) (c_6 : ¬ a2 = 14) (c_7 : a2 < 12) (c_9 : ¬ (bI ((0 : Int) ≤ a3 ∧ a3 ≤ (0 : Int))) = 0) (c_10 : ¬ a2 < 12) (o_19 : (0 ≤ (i32 (2 * a1)) ∧ (i32 (2 * a1)) < 120)) (c_20 : ((s.2 7) (i32 (2 * a1))) = a2) : (0 ≤ (i32 ((i32 (2 * a1)) + 1)) ∧ (i32 ((i32 (2 * a1)) + 1)) < 120) := by
  have hW := tOK_W hp
  have hB := tOK_B hp
  (try simp only [bI_0, bI_n, Classical.not_not] at *)
  (try simp (disch := omega) only [i32_id] at *)
  (try have q1 := turn_lo (h := s.2 6) (i := a1) (w := a2) (n := a3) (by omega))
  (try have q1 := turn_14 (h := s.2 6) (i := a1) (w := a2) (n := a3) (by omega))
  (try have q1 := turn_mid (h := s.2 6) (i := a1) (w := a2) (n := a3) (by omega))
  first
   | done
   | omega
   | assumption
   | (exact (turn_n (fun q => absurd q.1 (by assumption))).1.symm)
   | (exact (turn_n (fun q => absurd q.1 (by assumption))).2.symm)
   | (exact (turn_n (fun q => absurd q.2.1 (by assumption))).1.symm)
   | (exact (turn_n (fun q => absurd q.2.1 (by assumption))).2.symm)
   | (exact (turn_n (fun q => absurd (q1.1.mp q) (by omega))).1.symm)
   | (exact (turn_n (fun q => absurd (q1.1.mp q) (by omega))).2.symm)
   | (rw [(turn_y (q1.1.mpr (by omega))).1, q1.2])
   | (rw [(turn_y (q1.1.mpr (by omega))).2, q1.2]; first | (rw [if_neg (by omega)]) | (rw [if_pos (by omega)]))
theorem vX3_turn_20 (s : MS) (a1 : Int) (a2 : Int) (a3 : Int) (hp : tOK (s.2 6)) (o_1 : (tOK (s.2 6))) (c_3 : ¬ (bI (0 ≤ a1 ∧ a1 < (s.2 6) 3)) = 0) (c_5 : ¬ (bI ((0 : Int) ≤ a2 ∧ a2 ≤ (14 : Int))) = 0) (c_6 : ¬ a2 = 14) (c_7 : a2 < 12) (c_9 : ¬ (bI ((0 : Int) ≤ a3 ∧ a3 ≤ (0 : Int))) = 0) (c_10 : ¬ a2 < 12) (o_19 : (0 ≤ (i32 (2 * a1)) ∧ (i32 (2 * a1)) < 120)) (c_20 : ((s.2 7) (i32 (2 * a1))) = a2) (o_23 : (0 ≤ (i32 ((i32 (2 * a1)) + 1)) ∧ (i32 ((i32 (2 * a1)) + 1)) < 120)) (c_24 : ((s.2 7) (i32 ((i32 (2 * a1)) + 1))) = a3) : (upI (upI (s.2 7) (i32 (2 * a1)) a2) (i32 ((i32 (2 * a1)) + 1)) a3) = (turnA (s.2 6) (s.2 7) a1 a2 a3) := by
  have hW := tOK_W hp
  have hB := tOK_B hp
  (try simp only [bI_0, bI_n, Classical.not_not] at *)
  (try simp (disch := omega) only [i32_id] at *)
  (try have q1 := turn_lo (h := s.2 6) (i := a1) (w := a2) (n := a3) (by omega))
  (try have q1 := turn_14 (h := s.2 6) (i := a1) (w := a2) (n := a3) (by omega))
  (try have q1 := turn_mid (h := s.2 6) (i := a1) (w := a2) (n := a3) (by omega))
  first
   | done
   | omega
   | assumption
   | (exact (turn_n (fun q => absurd q.1 (by assumption))).1.symm)
   | (exact (turn_n (fun q => absurd q.1 (by assumption))).2.symm)
   | (exact (turn_n (fun q => absurd q.2.1 (by assumption))).1.symm)
   | (exact (turn_n (fun q => absurd q.2.1 (by assumption))).2.symm)
   | (exact (turn_n (fun q => absurd (q1.1.mp q) (by omega))).1.symm)
   | (exact (turn_n (fun q => absurd (q1.1.mp q) (by omega))).2.symm)
   | (rw [(turn_y (q1.1.mpr (by omega))).1, q1.2])
   | (rw [(turn_y (q1.1.mpr (by omega))).2, q1.2]; first | (rw [if_neg (by omega)]) | (rw [if_pos (by omega)]))
theorem vX3_turn_21 (s : MS) (a1 : Int) (a2 : Int) (a3 : Int) (hp : tOK (s.2 6)) (o_1 : (tOK (s.2 6))) (c_3 : ¬ (bI (0 ≤ a1 ∧ a1 < (s.2 6) 3)) = 0) (c_5 : ¬ (bI ((0 : Int) ≤ a2 ∧ a2 ≤ (14 : Int))) = 0) (c_6 : ¬ a2 = 14) (c_7 : a2 < 12) (c_9 : ¬ (bI ((0 : Int) ≤ a3 ∧ a3 ≤ (0 : Int))) = 0) (c_10 : ¬ a2 < 12) (o_19 : (0 ≤ (i32 (2 * a1)) ∧ (i32 (2 * a1)) < 120)) (c_20 : ((s.2 7) (i32 (2 * a1))) = a2) (o_23 : (0 ≤ (i32 ((i32 (2 * a1)) + 1)) ∧ (i32 ((i32 (2 * a1)) + 1)) < 120)) (c_24 : ((s.2 7) (i32 ((i32 (2 * a1)) + 1))) = a3) : 0 = (rTurn (s.2 6) (s.2 7) a1 a2 a3) := by
  have hW := tOK_W hp
  have hB := tOK_B hp
  (try simp only [bI_0, bI_n, Classical.not_not] at *)
  (try simp (disch := omega) only [i32_id] at *)
  (try have q1 := turn_lo (h := s.2 6) (i := a1) (w := a2) (n := a3) (by omega))
  (try have q1 := turn_14 (h := s.2 6) (i := a1) (w := a2) (n := a3) (by omega))
  (try have q1 := turn_mid (h := s.2 6) (i := a1) (w := a2) (n := a3) (by omega))
  first
   | done
   | omega
   | assumption
   | (exact (turn_n (fun q => absurd q.1 (by assumption))).1.symm)
   | (exact (turn_n (fun q => absurd q.1 (by assumption))).2.symm)
   | (exact (turn_n (fun q => absurd q.2.1 (by assumption))).1.symm)
   | (exact (turn_n (fun q => absurd q.2.1 (by assumption))).2.symm)
   | (exact (turn_n (fun q => absurd (q1.1.mp q) (by omega))).1.symm)
   | (exact (turn_n (fun q => absurd (q1.1.mp q) (by omega))).2.symm)
   | (rw [(turn_y (q1.1.mpr (by omega))).1, q1.2])
   | (rw [(turn_y (q1.1.mpr (by omega))).2, q1.2]; first | (rw [if_neg (by omega)]) | (rw [if_pos (by omega)]))
theorem vX3_turn_22 (s : MS) (a1 : Int) (a2 : Int) (a3 : Int) (hp : tOK (s.2 6)) (o_1 : (tOK (s.2 6))) (c_3 : ¬ (bI (0 ≤ a1 ∧ a1 < (s.2 6) 3)) = 0) (c_5 : ¬ (bI ((0 : Int) ≤ a2 ∧ a2 ≤ (14 : Int))) = 0) (c_6 : ¬ a2 = 14) (c_7 : a2 < 12) (c_9 : ¬ (bI ((0 : Int) ≤ a3 ∧ a3 ≤ (0 : Int))) = 0) (c_10 : ¬ a2 < 12) (o_19 : (0 ≤ (i32 (2 * a1)) ∧ (i32 (2 * a1)) < 120)) (c_20 : ((s.2 7) (i32 (2 * a1))) = a2) (o_23 : (0 ≤ (i32 ((i32 (2 * a1)) + 1)) ∧ (i32 ((i32 (2 * a1)) + 1)) < 120)) (c_24 : ¬ ((s.2 7) (i32 ((i32 (2 * a1)) + 1))) = a3) : (upI (upI (s.2 7) (i32 (2 * a1)) a2) (i32 ((i32 (2 * a1)) + 1)) a3) = (turnA (s.2 6) (s.2 7) a1 a2 a3) := by
  have hW := tOK_W hp
  have hB := tOK_B hp
  (try simp only [bI_0, bI_n, Classical.not_not] at *)
  (try simp (disch := omega) only [i32_id] at *)
  (try have q1 := turn_lo (h := s.2 6) (i := a1) (w := a2) (n := a3) (by omega))
  (try have q1 := turn_14 (h := s.2 6) (i := a1) (w := a2) (n := a3) (by omega))
  (try have q1 := turn_mid (h := s.2 6) (i := a1) (w := a2) (n := a3) (by omega))
  first
   | done
   | omega
   | assumption
   | (exact (turn_n (fun q => absurd q.1 (by assumption))).1.symm)
   | (exact (turn_n (fun q => absurd q.1 (by assumption))).2.symm)
   | (exact (turn_n (fun q => absurd q.2.1 (by assumption))).1.symm)
   | (exact (turn_n (fun q => absurd q.2.1 (by assumption))).2.symm)
   | (exact (turn_n (fun q => absurd (q1.1.mp q) (by omega))).1.symm)
   | (exact (turn_n (fun q => absurd (q1.1.mp q) (by omega))).2.symm)
   | (rw [(turn_y (q1.1.mpr (by omega))).1, q1.2])
   | (rw [(turn_y (q1.1.mpr (by omega))).2, q1.2]; first | (rw [if_neg (by omega)]) | (rw [if_pos (by omega)]))
theorem vX3_turn_23 (s : MS) (a1 : Int) (a2 : Int) (a3 : Int) (hp : tOK (s.2 6)) (o_1 : (tOK (s.2 6))) (c_3 : ¬ (bI (0 ≤ a1 ∧ a1 < (s.2 6) 3)) = 0) (c_5 : ¬ (bI ((0 : Int) ≤ a2 ∧ a2 ≤ (14 : Int))) = 0) (c_6 : ¬ a2 = 14) (c_7 : a2 < 12) (c_9 : ¬ (bI ((0 : Int) ≤ a3 ∧ a3 ≤ (0 : Int))) = 0) (c_10 : ¬ a2 < 12) (o_19 : (0 ≤ (i32 (2 * a1)) ∧ (i32 (2 * a1)) < 120)) (c_20 : ((s.2 7) (i32 (2 * a1))) = a2) (o_23 : (0 ≤ (i32 ((i32 (2 * a1)) + 1)) ∧ (i32 ((i32 (2 * a1)) + 1)) < 120)) (c_24 : ¬ ((s.2 7) (i32 ((i32 (2 * a1)) + 1))) = a3) : 1 = (rTurn (s.2 6) (s.2 7) a1 a2 a3) := by
  have hW := tOK_W hp
  have hB := tOK_B hp
  (try simp only [bI_0, bI_n, Classical.not_not] at *)
  (try simp (disch := omega) only [i32_id] at *)
  (try have q1 := turn_lo (h := s.2 6) (i := a1) (w := a2) (n := a3) (by omega))
  (try have q1 := turn_14 (h := s.2 6) (i := a1) (w := a2) (n := a3) (by omega))
  (try have q1 := turn_mid (h := s.2 6) (i := a1) (w := a2) (n := a3) (by omega))
  first
   | done
   | omega
   | assumption
   | (exact (turn_n (fun q => absurd q.1 (by assumption))).1.symm)
   | (exact (turn_n (fun q => absurd q.1 (by assumption))).2.symm)
   | (exact (turn_n (fun q => absurd q.2.1 (by assumption))).1.symm)
   | (exact (turn_n (fun q => absurd q.2.1 (by assumption))).2.symm)
   | (exact (turn_n (fun q => absurd (q1.1.mp q) (by omega))).1.symm)
   | (exact (turn_n (fun q => absurd (q1.1.mp q) (by omega))).2.symm)
   | (rw [(turn_y (q1.1.mpr (by omega))).1, q1.2])
   | (rw [(turn_y (q1.1.mpr (by omega))).2, q1.2]; first | (rw [if_neg (by omega)]) | (rw [if_pos (by omega)]))
theorem vX3_turn_24 (s : MS) (a1 : Int) (a2 : Int) (a3 : Int) (hp : tOK (s.2 6)) (o_1 : (tOK (s.2 6))) (c_3 : ¬ (bI (0 ≤ a1 ∧ a1 < (s.2 6) 3)) = 0) (c_5 : ¬ (bI ((0 : Int) ≤ a2 ∧ a2 ≤ (14 : Int))) = 0) (c_6 : ¬ a2 = 14) (c_7 : a2 < 12) (c_9 : (bI ((0 : Int) ≤ a3 ∧ a3 ≤ (0 : Int))) = 0) : (s.2 7) = (turnA (s.2 6) (s.2 7) a1 a2 a3) := by
  have hW := tOK_W hp
  have hB := tOK_B hp
  (try simp only [bI_0, bI_n, Classical.not_not] at *)
  (try simp (disch := omega) only [i32_id] at *)
  (try have q1 := turn_lo (h := s.2 6) (i := a1) (w := a2) (n := a3) (by omega))
  (try have q1 := turn_14 (h := s.2 6) (i := a1) (w := a2) (n := a3) (by omega))
  (try have q1 := turn_mid (h := s.2 6) (i := a1) (w := a2) (n := a3) (by omega))
  first
   | done
   | omega
   | assumption
   | (exact (turn_n (fun q => absurd q.1 (by assumption))).1.symm)
   | (exact (turn_n (fun q => absurd q.1 (by assumption))).2.symm)
   | (exact (turn_n (fun q => absurd q.2.1 (by assumption))).1.symm)
   | (exact (turn_n (fun q => absurd q.2.1 (by assumption))).2.symm)
   | (exact (turn_n (fun q => absurd (q1.1.mp q) (by omega))).1.symm)
   | (exact (turn_n (fun q => absurd (q1.1.mp q) (by omega))).2.symm)
   | (rw [(turn_y (q1.1.mpr (by omega))).1, q1.2])
   | (rw [(turn_y (q1.1.mpr (by omega))).2, q1.2]; first | (rw [if_neg (by omega)]) | (rw [if_pos (by omega)]))
theorem vX3_turn_25 (s : MS) (a1 : Int) (a2 : Int) (a3 : Int) (hp : tOK (s.2 6)) (o_1 : (tOK (s.2 6))) (c_3 : ¬ (bI (0 ≤ a1 ∧ a1 < (s.2 6) 3)) = 0) (c_5 : ¬ (bI ((0 : Int) ≤ a2 ∧ a2 ≤ (14 : Int))) = 0) (c_6 : ¬ a2 = 14) (c_7 : a2 < 12) (c_9 : (bI ((0 : Int) ≤ a3 ∧ a3 ≤ (0 : Int))) = 0) : (-2) = (rTurn (s.2 6) (s.2 7) a1 a2 a3) := by
  have hW := tOK_W hp
  have hB := tOK_B hp
  (try simp only [bI_0, bI_n, Classical.not_not] at *)
  (try simp (disch := omega) only [i32_id] at *)
  (try have q1 := turn_lo (h := s.2 6) (i := a1) (w := a2) (n := a3) (by omega))
  (try have q1 := turn_14 (h := s.2 6) (i := a1) (w := a2) (n := a3) (by omega))
  (try have q1 := turn_mid (h := s.2 6) (i := a1) (w := a2) (n := a3) (by omega))
  first
   | done
   | omega
   | assumption
   | (exact (turn_n (fun q => absurd q.1 (by assumption))).1.symm)
   | (exact (turn_n (fun q => absurd q.1 (by assumption))).2.symm)
   | (exact (turn_n (fun q => absurd q.2.1 (by assumption))).1.symm)
   | (exact (turn_n (fun q => absurd q.2.1 (by assumption))).2.symm)
   | (exact (turn_n (fun q => absurd (q1.1.mp q) (by omega))).1.symm)
   | (exact (turn_n (fun q => absurd (q1.1.mp q) (by omega))).2.symm)
   | (rw [(turn_y (q1.1.mpr (by omega))).1, q1.2])
   | (rw [(turn_y (q1.1.mpr (by omega))).2, q1.2]; first | (rw [if_neg (by omega)]) | (rw [if_pos (by omega)]))
theorem vX3_turn_26 (s : MS) (a1 : Int) (a2 : Int) (a3 : Int) (hp : tOK (s.2 6)) (o_1 : (tOK (s.2 6))) (c_3 : ¬ (bI (0 ≤ a1 ∧ a1 < (s.2 6) 3)) = 0) (c_5 : ¬ (bI ((0 : Int) ≤ a2 ∧ a2 ≤ (14 : Int))) = 0) (c_6 : ¬ a2 = 14) (c_7 : ¬ a2 < 12) (c_28 : ¬ (bI ((0 : Int) ≤ a3 ∧ a3 ≤ (99 : Int))) = 0) (c_29 : a2 < 12) : (0 ≤ (i32 (2 * a1)) ∧ (i32 (2 * a1)) < 120) := by
  have hW := tOK_W hp
  have hB := tOK_B hp
  (try simp only [bI_0, bI_n, Classical.not_not] at *)
  (try simp (disch := omega) only [i32_id] at *)
  (try have q1 := turn_lo (h := s.2 6) (i := a1) (w := a2) (n := a3) (by omega))
  (try have q1 := turn_14 (h := s.2 6) (i := a1) (w := a2) (n := a3) (by omega))
  (try have q1 := turn_mid (h := s.2 6) (i := a1) (w := a2) (n := a3) (by omega))
  first
   | done
   | omega
   | assumption
   | (exact (turn_n (fun q => absurd q.1 (by assumption))).1.symm)
   | (exact (turn_n (fun q => absurd q.1 (by assumption))).2.symm)
   | (exact (turn_n (fun q => absurd q.2.1 (by assumption))).1.symm)
   | (exact (turn_n (fun q => absurd q.2.1 (by assumption))).2.symm)
   | (exact (turn_n (fun q => absurd (q1.1.mp q) (by omega))).1.symm)
   | (exact (turn_n (fun q => absurd (q1.1.mp q) (by omega))).2.symm)
   | (rw [(turn_y (q1.1.mpr (by omega))).1, q1.2])
   | (rw [(turn_y (q1.1.mpr (by omega))).2, q1.2]; first | (rw [if_neg (by omega)]) | (rw [if_pos (by omega)]))
theorem vX3_turn_27 (s : MS) (a1 : Int) (a2 : Int) (a3 : Int) (hp : tOK (s.2 6)) (o_1 : (tOK (s.2 6))) (c_3 : ¬ (bI (0 ≤ a1 ∧ a1 < (s.2 6) 3)) = 0) (c_5 : ¬ (bI ((0 : Int) ≤ a2 ∧ a2 ≤ (14 : Int))) = 0) (c_6 : ¬ a2 = 14) (c_7 : ¬ a2 < 12) (c_28 : ¬ (bI ((0 : Int) ≤ a3 ∧ a3 ≤ (99 : Int))) = 0) (c_29 : a2 < 12) (o_30 : (0 ≤ (i32 (2 * a1)) ∧ (i32 (2 * a1)) < 120)) (c_31 : ¬ ((s.2 7) (i32 (2 * a1))) = a2) : (0 ≤ (i32 ((i32 (2 * a1)) + 1)) ∧ (i32 ((i32 (2 * a1)) + 1)) < 120) := by
  have hW := tOK_W hp
  have hB := tOK_B hp
  (try simp only [bI_0, bI_n, Classical.not_not] at *)
  (try simp (disch := omega) only [i32_id] at *)
  (try have q1 := turn_lo (h := s.2 6) (i := a1) (w := a2) (n := a3) (by omega))
  (try have q1 := turn_14 (h := s.2 6) (i := a1) (w := a2) (n := a3) (by omega))
  (try have q1 := turn_mid (h := s.2 6) (i := a1) (w := a2) (n := a3) (by omega))
  first
   | done
   | omega
   | assumption
   | (exact (turn_n (fun q => absurd q.1 (by assumption))).1.symm)
   | (exact (turn_n (fun q => absurd q.1 (by assumption))).2.symm)
   | (exact (turn_n (fun q => absurd q.2.1 (by assumption))).1.symm)
   | (exact (turn_n (fun q => absurd q.2.1 (by assumption))).2.symm)
   | (exact (turn_n (fun q => absurd (q1.1.mp q) (by omega))).1.symm)
   | (exact (turn_n (fun q => absurd (q1.1.mp q) (by omega))).2.symm)
   | (rw [(turn_y (q1.1.mpr (by omega))).1, q1.2])
   | (rw [(turn_y (q1.1.mpr (by omega))).2, q1.2]; first | (rw [if_neg (by omega)]) | (rw [if_pos (by omega)]))
theorem vX3_turn_28 (s : MS) (a1 : Int) (a2 : Int) (a3 : Int) (hp : tOK (s.2 6)) (o_1 : (tOK (s.2 6))) (c_3 : ¬ (bI (0 ≤ a1 ∧ a1 < (s.2 6) 3)) = 0) (c_5 : ¬ (bI ((0 : Int) ≤ a2 ∧ a2 ≤ (14 : Int))) = 0) (c_6 : ¬ a2 = 14) (c_7 : ¬ a2 < 12) (c_28 : ¬ (bI ((0 : Int) ≤ a3 ∧ a3 ≤ (99 : Int))) = 0) (c_29 : a2 < 12) (o_30 : (0 ≤ (i32 (2 * a1)) ∧ (i32 (2 * a1)) < 120)) (c_31 : ¬ ((s.2 7) (i32 (2 * a1))) = a2) (o_32 : (0 ≤ (i32 ((i32 (2 * a1)) + 1)) ∧ (i32 ((i32 (2 * a1)) + 1)) < 120)) : (upI (upI (s.2 7) (i32 (2 * a1)) a2) (i32 ((i32 (2 * a1)) + 1)) (-1)) = (turnA (s.2 6) (s.2 7) a1 a2 a3) := by
  have hW := tOK_W hp
  have hB := tOK_B hp
  (try simp only [bI_0, bI_n, Classical.not_not] at *)
  (try simp (disch := omega) only [i32_id] at *)
  (try have q1 := turn_lo (h := s.2 6) (i := a1) (w := a2) (n := a3) (by omega))
  (try have q1 := turn_14 (h := s.2 6) (i := a1) (w := a2) (n := a3) (by omega))
  (try have q1 := turn_mid (h := s.2 6) (i := a1) (w := a2) (n := a3) (by omega))
  first
   | done
   | omega
   | assumption
   | (exact (turn_n (fun q => absurd q.1 (by assumption))).1.symm)
   | (exact (turn_n (fun q => absurd q.1 (by assumption))).2.symm)
   | (exact (turn_n (fun q => absurd q.2.1 (by assumption))).1.symm)
   | (exact (turn_n (fun q => absurd q.2.1 (by assumption))).2.symm)
   | (exact (turn_n (fun q => absurd (q1.1.mp q) (by omega))).1.symm)
   | (exact (turn_n (fun q => absurd (q1.1.mp q) (by omega))).2.symm)
   | (rw [(turn_y (q1.1.mpr (by omega))).1, q1.2])
   | (rw [(turn_y (q1.1.mpr (by omega))).2, q1.2]; first | (rw [if_neg (by omega)]) | (rw [if_pos (by omega)]))
theorem vX3_turn_29 (s : MS) (a1 : Int) (a2 : Int) (a3 : Int) (hp : tOK (s.2 6)) (o_1 : (tOK (s.2 6))) (c_3 : ¬ (bI (0 ≤ a1 ∧ a1 < (s.2 6) 3)) = 0) (c_5 : ¬ (bI ((0 : Int) ≤ a2 ∧ a2 ≤ (14 : Int))) = 0) (c_6 : ¬ a2 = 14) (c_7 : ¬ a2 < 12) (c_28 : ¬ (bI ((0 : Int) ≤ a3 ∧ a3 ≤ (99 : Int))) = 0) (c_29 : a2 < 12) (o_30 : (0 ≤ (i32 (2 * a1)) ∧ (i32 (2 * a1)) < 120)) (c_31 : ¬ ((s.2 7) (i32 (2 * a1))) = a2) (o_32 : (0 ≤ (i32 ((i32 (2 * a1)) + 1)) ∧ (i32 ((i32 (2 * a1)) + 1)) < 120)) : 1 = (rTurn (s.2 6) (s.2 7) a1 a2 a3) := by
  have hW := tOK_W hp
  have hB := tOK_B hp
  (try simp only [bI_0, bI_n, Classical.not_not] at *)
  (try simp (disch := omega) only [i32_id] at *)
  (try have q1 := turn_lo (h := s.2 6) (i := a1) (w := a2) (n := a3) (by omega))
  (try have q1 := turn_14 (h := s.2 6) (i := a1) (w := a2) (n := a3) (by omega))
  (try have q1 := turn_mid (h := s.2 6) (i := a1) (w := a2) (n := a3) (by omega))
  first
   | done
   | omega
   | assumption
   | (exact (turn_n (fun q => absurd q.1 (by assumption))).1.symm)
   | (exact (turn_n (fun q => absurd q.1 (by assumption))).2.symm)
   | (exact (turn_n (fun q => absurd q.2.1 (by assumption))).1.symm)
   | (exact (turn_n (fun q => absurd q.2.1 (by assumption))).2.symm)
   | (exact (turn_n (fun q => absurd (q1.1.mp q) (by omega))).1.symm)
   | (exact (turn_n (fun q => absurd (q1.1.mp q) (by omega))).2.symm)
   | (rw [(turn_y (q1.1.mpr (by omega))).1, q1.2])
   | (rw [(turn_y (q1.1.mpr (by omega))).2, q1.2]; first | (rw [if_neg (by omega)]) | (rw [if_pos (by omega)]))
theorem vX3_turn_30 (s : MS) (a1 : Int) (a2 : Int) (a3 : Int) (hp : tOK (s.2 6)) (o_1 : (tOK (s.2 6))) (c_3 : ¬ (bI (0 ≤ a1 ∧ a1 < (s.2 6) 3)) = 0) (c_5 : ¬ (bI ((0 : Int) ≤ a2 ∧ a2 ≤ (14 : Int))) = 0) (c_6 : ¬ a2 = 14) (c_7 : ¬ a2 < 12) (c_28 : ¬ (bI ((0 : Int) ≤ a3 ∧ a3 ≤ (99 : Int))) = 0) (c_29 : a2 < 12) (o_30 : (0 ≤ (i32 (2 * a1)) ∧ (i32 (2 * a1)) < 120)) (c_31 : ((s.2 7) (i32 (2 * a1))) = a2) : (0 ≤ (i32 ((i32 (2 * a1)) + 1)) ∧ (i32 ((i32 (2 * a1)) + 1)) < 120) := by
  have hW := tOK_W hp
  have hB := tOK_B hp
  (try simp only [bI_0, bI_n, Classical.not_not] at *)
  (try simp (disch := omega) only [i32_id] at *)
  (try have q1 := turn_lo (h := s.2 6) (i := a1) (w := a2) (n := a3) (by omega))
  (try have q1 := turn_14 (h := s.2 6) (i := a1) (w := a2) (n := a3) (by omega))
  (try have q1 := turn_mid (h := s.2 6) (i := a1) (w := a2) (n := a3) (by omega))
  first
   | done
   | omega
   | assumption
   | (exact (turn_n (fun q => absurd q.1 (by assumption))).1.symm)
   | (exact (turn_n (fun q => absurd q.1 (by assumption))).2.symm)
   | (exact (turn_n (fun q => absurd q.2.1 (by assumption))).1.symm)
   | (exact (turn_n (fun q => absurd q.2.1 (by assumption))).2.symm)
   | (exact (turn_n (fun q => absurd (q1.1.mp q) (by omega))).1.symm)
   | (exact (turn_n (fun q => absurd (q1.1.mp q) (by omega))).2.symm)
   | (rw [(turn_y (q1.1.mpr (by omega))).1, q1.2])
   | (rw [(turn_y (q1.1.mpr (by omega))).2, q1.2]; first | (rw [if_neg (by omega)]) | (rw [if_pos (by omega)]))
theorem vX3_turn_31 (s : MS) (a1 : Int) (a2 : Int) (a3 : Int) (hp : tOK (s.2 6)) (o_1 : (tOK (s.2 6))) (c_3 : ¬ (bI (0 ≤ a1 ∧ a1 < (s.2 6) 3)) = 0) (c_5 : ¬ (bI ((0 : Int) ≤ a2 ∧ a2 ≤ (14 : Int))) = 0) (c_6 : ¬ a2 = 14) (c_7 : ¬ a2 < 12) (c_28 : ¬ (bI ((0 : Int) ≤ a3 ∧ a3 ≤ (99 : Int))) = 0) (c_29 : a2 < 12) (o_30 : (0 ≤ (i32 (2 * a1)) ∧ (i32 (2 * a1)) < 120)) (c_31 : ((s.2 7) (i32 (2 * a1))) = a2) (o_34 : (0 ≤ (i32 ((i32 (2 * a1)) + 1)) ∧ (i32 ((i32 (2 * a1)) + 1)) < 120)) (c_35 : ((s.2 7) (i32 ((i32 (2 * a1)) + 1))) = (-1)) : (upI (upI (s.2 7) (i32 (2 * a1)) a2) (i32 ((i32 (2 * a1)) + 1)) (-1)) = (turnA (s.2 6) (s.2 7) a1 a2 a3) := by
  have hW := tOK_W hp
  have hB := tOK_B hp
  (try simp only [bI_0, bI_n, Classical.not_not] at *)
  (try simp (disch := omega) only [i32_id] at *)
  (try have q1 := turn_lo (h := s.2 6) (i := a1) (w := a2) (n := a3) (by omega))
  (try have q1 := turn_14 (h := s.2 6) (i := a1) (w := a2) (n := a3) (by omega))
  (try have q1 := turn_mid (h := s.2 6) (i := a1) (w := a2) (n := a3) (by omega))
  first
   | done
   | omega
   | assumption
   | (exact (turn_n (fun q => absurd q.1 (by assumption))).1.symm)
   | (exact (turn_n (fun q => absurd q.1 (by assumption))).2.symm)
   | (exact (turn_n (fun q => absurd q.2.1 (by assumption))).1.symm)
   | (exact (turn_n (fun q => absurd q.2.1 (by assumption))).2.symm)
   | (exact (turn_n (fun q => absurd (q1.1.mp q) (by omega))).1.symm)
   | (exact (turn_n (fun q => absurd (q1.1.mp q) (by omega))).2.symm)
   | (rw [(turn_y (q1.1.mpr (by omega))).1, q1.2])
   | (rw [(turn_y (q1.1.mpr (by omega))).2, q1.2]; first | (rw [if_neg (by omega)]) | (rw [if_pos (by omega)]))
theorem vX3_turn_32 (s : MS) (a1 : Int) (a2 : Int) (a3 : Int) (hp : tOK (s.2 6)) (o_1 : (tOK (s.2 6))) (c_3 : ¬ (bI (0 ≤ a1 ∧ a1 < (s.2 6) 3)) = 0) (c_5 : ¬ (bI ((0 : Int) ≤ a2 ∧ a2 ≤ (14 : Int))) = 0) (c_6 : ¬ a2 = 14) (c_7 : ¬ a2 < 12) (c_28 : ¬ (bI ((0 : Int) ≤ a3 ∧ a3 ≤ (99 : Int))) = 0) (c_29 : a2 < 12) (o_30 : (0 ≤ (i32 (2 * a1)) ∧ (i32 (2 * a1)) < 120)) (c_31 : ((s.2 7) (i32 (2 * a1))) = a2) (o_34 : (0 ≤ (i32 ((i32 (2 * a1)) + 1)) ∧ (i32 ((i32 (2 * a1)) + 1)) < 120)) (c_35 : ((s.2 7) (i32 ((i32 (2 * a1)) + 1))) = (-1)) : 0 = (rTurn (s.2 6) (s.2 7) a1 a2 a3) := by
  have hW := tOK_W hp
  have hB := tOK_B hp
  (try simp only [bI_0, bI_n, Classical.not_not] at *)
  (try simp (disch := omega) only [i32_id] at *)
  (try have q1 := turn_lo (h := s.2 6) (i := a1) (w := a2) (n := a3) (by omega))
  (try have q1 := turn_14 (h := s.2 6) (i := a1) (w := a2) (n := a3) (by omega))
  (try have q1 := turn_mid (h := s.2 6) (i := a1) (w := a2) (n := a3) (by omega))
  first
   | done
   | omega
   | assumption
   | (exact (turn_n (fun q => absurd q.1 (by assumption))).1.symm)
   | (exact (turn_n (fun q => absurd q.1 (by assumption))).2.symm)
   | (exact (turn_n (fun q => absurd q.2.1 (by assumption))).1.symm)
   | (exact (turn_n (fun q => absurd q.2.1 (by assumption))).2.symm)
   | (exact (turn_n (fun q => absurd (q1.1.mp q) (by omega))).1.symm)
   | (exact (turn_n (fun q => absurd (q1.1.mp q) (by omega))).2.symm)
   | (rw [(turn_y (q1.1.mpr (by omega))).1, q1.2])
   | (rw [(turn_y (q1.1.mpr (by omega))).2, q1.2]; first | (rw [if_neg (by omega)]) | (rw [if_pos (by omega)]))
theorem vX3_turn_33 (s : MS) (a1 : Int) (a2 : Int) (a3 : Int) (hp : tOK (s.2 6)) (o_1 : (tOK (s.2 6))) (c_3 : ¬ (bI (0 ≤ a1 ∧ a1 < (s.2 6) 3)) = 0) (c_5 : ¬ (bI ((0 : Int) ≤ a2 ∧ a2 ≤ (14 : Int))) = 0) (c_6 : ¬ a2 = 14) (c_7 : ¬ a2 < 12) (c_28 : ¬ (bI ((0 : Int) ≤ a3 ∧ a3 ≤ (99 : Int))) = 0) (c_29 : a2 < 12) (o_30 : (0 ≤ (i32 (2 * a1)) ∧ (i32 (2 * a1)) < 120)) (c_31 : ((s.2 7) (i32 (2 * a1))) = a2) (o_34 : (0 ≤ (i32 ((i32 (2 * a1)) + 1)) ∧ (i32 ((i32 (2 * a1)) + 1)) < 120)) (c_35 : ¬ ((s.2 7) (i32 ((i32 (2 * a1)) + 1))) = (-1)) : (upI (upI (s.2 7) (i32 (2 * a1)) a2) (i32 ((i32 (2 * a1)) + 1)) (-1)) = (turnA (s.2 6) (s.2 7) a1 a2 a3) := by
  have hW := tOK_W hp
  have hB := tOK_B hp
  (try simp only [bI_0, bI_n, Classical.not_not] at *)
  (try simp (disch := omega) only [i32_id] at *)
  (try have q1 := turn_lo (h := s.2 6) (i := a1) (w := a2) (n := a3) (by omega))
  (try have q1 := turn_14 (h := s.2 6) (i := a1) (w := a2) (n := a3) (by omega))
  (try have q1 := turn_mid (h := s.2 6) (i := a1) (w := a2) (n := a3) (by omega))
  first
   | done
   | omega
   | assumption
   | (exact (turn_n (fun q => absurd q.1 (by assumption))).1.symm)
   | (exact (turn_n (fun q => absurd q.1 (by assumption))).2.symm)
   | (exact (turn_n (fun q => absurd q.2.1 (by assumption))).1.symm)
   | (exact (turn_n (fun q => absurd q.2.1 (by assumption))).2.symm)
   | (exact (turn_n (fun q => absurd (q1.1.mp q) (by omega))).1.symm)
   | (exact (turn_n (fun q => absurd (q1.1.mp q) (by omega))).2.symm)
   | (rw [(turn_y (q1.1.mpr (by omega))).1, q1.2])
   | (rw [(turn_y (q1.1.mpr (by omega))).2, q1.2]; first | (rw [if_neg (by omega)]) | (rw [if_pos (by omega)]))
theorem vX3_turn_34 (s : MS) (a1 : Int) (a2 : Int) (a3 : Int) (hp : tOK (s.2 6)) (o_1 : (tOK (s.2 6))) (c_3 : ¬ (bI (0 ≤ a1 ∧ a1 < (s.2 6) 3)) = 0) (c_5 : ¬ (bI ((0 : Int) ≤ a2 ∧ a2 ≤ (14 : Int))) = 0) (c_6 : ¬ a2 = 14) (c_7 : ¬ a2 < 12) (c_28 : ¬ (bI ((0 : Int) ≤ a3 ∧ a3 ≤ (99 : Int))) = 0) (c_29 : a2 < 12) (o_30 : (0 ≤ (i32 (2 * a1)) ∧ (i32 (2 * a1)) < 120)) (c_31 : ((s.2 7) (i32 (2 * a1))) = a2) (o_34 : (0 ≤ (i32 ((i32 (2 * a1)) + 1)) ∧ (i32 ((i32 (2 * a1)) + 1)) < 120)) (c_35 : ¬ ((s.2 7) (i32 ((i32 (2 * a1)) + 1))) = (-1)) : 1 = (rTurn (s.2 6) (s.2 7) a1 a2 a3) := by
  have hW := tOK_W hp
  have hB := tOK_B hp
  (try simp only [bI_0, bI_n, Classical.not_not] at *)
  (try simp (disch := omega) only [i32_id] at *)
  (try have q1 := turn_lo (h := s.2 6) (i := a1) (w := a2) (n := a3) (by omega))
  (try have q1 := turn_14 (h := s.2 6) (i := a1) (w := a2) (n := a3) (by omega))
  (try have q1 := turn_mid (h := s.2 6) (i := a1) (w := a2) (n := a3) (by omega))
  first
   | done
   | omega
   | assumption
   | (exact (turn_n (fun q => absurd q.1 (by assumption))).1.symm)
   | (exact (turn_n (fun q => absurd q.1 (by assumption))).2.symm)
   | (exact (turn_n (fun q => absurd q.2.1 (by assumption))).1.symm)
   | (exact (turn_n (fun q => absurd q.2.1 (by assumption))).2.symm)
   | (exact (turn_n (fun q => absurd (q1.1.mp q) (by omega))).1.symm)
   | (exact (turn_n (fun q => absurd (q1.1.mp q) (by omega))).2.symm)
   | (rw [(turn_y (q1.1.mpr (by omega))).1, q1.2])
   | (rw [(turn_y (q1.1.mpr (by omega))).2, q1.2]; first | (rw [if_neg (by omega)]) | (rw [if_pos (by omega)]))
theorem vX3_turn_35 (s : MS) (a1 : Int) (a2 : Int) (a3 : Int) (hp : tOK (s.2 6)) (o_1 : (tOK (s.2 6))) (c_3 : ¬ (bI (0 ≤ a1 ∧ a1 < (s.2 6) 3)) = 0) (c_5 : ¬ (bI ((0 : Int) ≤ a2 ∧ a2 ≤ (14 : Int))) = 0) (c_6 : ¬ a2 = 14) (c_7 : ¬ a2 < 12) (c_28 : ¬ (bI ((0 : Int) ≤ a3 ∧ a3 ≤ (99 : Int))) = 0) (c_29 : ¬ a2 < 12) : (0 ≤ (i32 (2 * a1)) ∧ (i32 (2 * a1)) < 120) := by
  have hW := tOK_W hp
  have hB := tOK_B hp
  (try simp only [bI_0, bI_n, Classical.not_not] at *)
  (try simp (disch := omega) only [i32_id] at *)
  (try have q1 := turn_lo (h := s.2 6) (i := a1) (w := a2) (n := a3) (by omega))
  (try have q1 := turn_14 (h := s.2 6) (i := a1) (w := a2) (n := a3) (by omega))
  (try have q1 := turn_mid (h := s.2 6) (i := a1) (w := a2) (n := a3) (by omega))
  first
   | done
   | omega
   | assumption
   | (exact (turn_n (fun q => absurd q.1 (by assumption))).1.symm)
   | (exact (turn_n (fun q => absurd q.1 (by assumption))).2.symm)
   | (exact (turn_n (fun q => absurd q.2.1 (by assumption))).1.symm)
   | (exact (turn_n (fun q => absurd q.2.1 (by assumption))).2.symm)
   | (exact (turn_n (fun q => absurd (q1.1.mp q) (by omega))).1.symm)
   | (exact (turn_n (fun q => absurd (q1.1.mp q) (by omega))).2.symm)
   | (rw [(turn_y (q1.1.mpr (by omega))).1, q1.2])
   | (rw [(turn_y (q1.1.mpr (by omega))).2, q1.2]; first | (rw [if_neg (by omega)]) | (rw [if_pos (by omega)]))
theorem vX3_turn_36 (s : MS) (a1 : Int) (a2 : Int) (a3 : Int) (hp : tOK (s.2 6)) (o_1 : (tOK (s.2 6))) (c_3 : ¬ (bI (0 ≤ a1 ∧ a1 < (s.2 6) 3)) = 0) (c_5 : ¬ (bI ((0 : Int) ≤ a2 ∧ a2 ≤ (14 : Int))) = 0) (c_6 : ¬ a2 = 14) (c_7 : ¬ a2 < 12) (c_28 : ¬ (bI ((0 : Int) ≤ a3 ∧ a3 ≤ (99 : Int))) = 0) (c_29 : ¬ a2 < 12) (o_38 : (0 ≤ (i32 (2 * a1)) ∧ (i32 (2 * a1)) < 120)) (c_39 : ¬ ((s.2 7) (i32 (2 * a1))) = a2) : (0 ≤ (i32 ((i32 (2 * a1)) + 1)) ∧ (i32 ((i32 (2 * a1)) + 1)) < 120) := by
  have hW := tOK_W hp
  have hB := tOK_B hp
  (try simp only [bI_0, bI_n, Classical.not_not] at *)
  (try simp (disch := omega) only [i32_id] at *)
  (try have q1 := turn_lo (h := s.2 6) (i := a1) (w := a2) (n := a3) (by omega))
  (try have q1 := turn_14 (h := s.2 6) (i := a1) (w := a2) (n := a3) (by omega))
  (try have q1 := turn_mid (h := s.2 6) (i := a1) (w := a2) (n := a3) (by omega))
  first
   | done
   | omega
   | assumption
   | (exact (turn_n (fun q => absurd q.1 (by assumption))).1.symm)
   | (exact (turn_n (fun q => absurd q.1 (by assumption))).2.symm)
   | (exact (turn_n (fun q => absurd q.2.1 (by assumption))).1.symm)
   | (exact (turn_n (fun q => absurd q.2.1 (by assumption))).2.symm)
   | (exact (turn_n (fun q => absurd (q1.1.mp q) (by omega))).1.symm)
   | (exact (turn_n (fun q => absurd (q1.1.mp q) (by omega))).2.symm)
   | (rw [(turn_y (q1.1.mpr (by omega))).1, q1.2])
   | (rw [(turn_y (q1.1.mpr (by omega))).2, q1.2]; first | (rw [if_neg (by omega)]) | (rw [if_pos (by omega)]))
theorem vX3_turn_37 (s : MS) (a1 : Int) (a2 : Int) (a3 : Int) (hp : tOK (s.2 6)) (o_1 : (tOK (s.2 6))) (c_3 : ¬ (bI (0 ≤ a1 ∧ a1 < (s.2 6) 3)) = 0) (c_5 : ¬ (bI ((0 : Int) ≤ a2 ∧ a2 ≤ (14 : Int))) = 0) (c_6 : ¬ a2 = 14) (c_7 : ¬ a2 < 12) (c_28 : ¬ (bI ((0 : Int) ≤ a3 ∧ a3 ≤ (99 : Int))) = 0) (c_29 : ¬ a2 < 12) (o_38 : (0 ≤ (i32 (2 * a1)) ∧ (i32 (2 * a1)) < 120)) (c_39 : ¬ ((s.2 7) (i32 (2 * a1))) = a2) (o_40 : (0 ≤ (i32 ((i32 (2 * a1)) + 1)) ∧ (i32 ((i32 (2 * a1)) + 1)) < 120)) : (upI (upI (s.2 7) (i32 (2 * a1)) a2) (i32 ((i32 (2 * a1)) + 1)) a3) = (turnA (s.2 6) (s.2 7) a1 a2 a3) := by
  have hW := tOK_W hp
  have hB := tOK_B hp
  (try simp only [bI_0, bI_n, Classical.not_not] at *)
  (try simp (disch := omega) only [i32_id] at *)
  (try have q1 := turn_lo (h := s.2 6) (i := a1) (w := a2) (n := a3) (by omega))
  (try have q1 := turn_14 (h := s.2 6) (i := a1) (w := a2) (n := a3) (by omega))
  (try have q1 := turn_mid (h := s.2 6) (i := a1) (w := a2) (n := a3) (by omega))
  first
   | done
   | omega
   | assumption
   | (exact (turn_n (fun q => absurd q.1 (by assumption))).1.symm)
   | (exact (turn_n (fun q => absurd q.1 (by assumption))).2.symm)
   | (exact (turn_n (fun q => absurd q.2.1 (by assumption))).1.symm)
   | (exact (turn_n (fun q => absurd q.2.1 (by assumption))).2.symm)
   | (exact (turn_n (fun q => absurd (q1.1.mp q) (by omega))).1.symm)
   | (exact (turn_n (fun q => absurd (q1.1.mp q) (by omega))).2.symm)
   | (rw [(turn_y (q1.1.mpr (by omega))).1, q1.2])
   | (rw [(turn_y (q1.1.mpr (by omega))).2, q1.2]; first | (rw [if_neg (by omega)]) | (rw [if_pos (by omega)]))
theorem vX3_turn_38 (s : MS) (a1 : Int) (a2 : Int) (a3 : Int) (hp : tOK (s.2 6)) (o_1 : (tOK (s.2 6))) (c_3 : ¬ (bI (0 ≤ a1 ∧ a1 < (s.2 6) 3)) = 0) (c_5 : ¬ (bI ((0 : Int) ≤ a2 ∧ a2 ≤ (14 : Int))) = 0) (c_6 : ¬ a2 = 14) (c_7 : ¬ a2 < 12) (c_28 : ¬ (bI ((0 : Int) ≤ a3 ∧ a3 ≤ (99 : Int))) = 0) (c_29 : ¬ a2 < 12) (o_38 : (0 ≤ (i32 (2 * a1)) ∧ (i32 (2 * a1)) < 120)) (c_39 : ¬ ((s.2 7) (i32 (2 * a1))) = a2) (o_40 : (0 ≤ (i32 ((i32 (2 * a1)) + 1)) ∧ (i32 ((i32 (2 * a1)) + 1)) < 120)) : 1 = (rTurn (s.2 6) (s.2 7) a1 a2 a3) := by
  have hW := tOK_W hp
  have hB := tOK_B hp
  (try simp only [bI_0, bI_n, Classical.not_not] at *)
  (try simp (disch := omega) only [i32_id] at *)
  (try have q1 := turn_lo (h := s.2 6) (i := a1) (w := a2) (n := a3) (by omega))
  (try have q1 := turn_14 (h := s.2 6) (i := a1) (w := a2) (n := a3) (by omega))
  (try have q1 := turn_mid (h := s.2 6) (i := a1) (w := a2) (n := a3) (by omega))
  first
   | done
   | omega
   | assumption
   | (exact (turn_n (fun q => absurd q.1 (by assumption))).1.symm)
   | (exact (turn_n (fun q => absurd q.1 (by assumption))).2.symm)
   | (exact (turn_n (fun q => absurd q.2.1 (by assumption))).1.symm)
   | (exact (turn_n (fun q => absurd q.2.1 (by assumption))).2.symm)
   | (exact (turn_n (fun q => absurd (q1.1.mp q) (by omega))).1.symm)
   | (exact (turn_n (fun q => absurd (q1.1.mp q) (by omega))).2.symm)
   | (rw [(turn_y (q1.1.mpr (by omega))).1, q1.2])
   | (rw [(turn_y (q1.1.mpr (by omega))).2, q1.2]; first | (rw [if_neg (by omega)]) | (rw [if_pos (by omega)]))
theorem vX3_turn_39 (s : MS) (a1 : Int) (a2 : Int) (a3 : Int) (hp : tOK (s.2 6)) (o_1 : (tOK (s.2 6))) (c_3 : ¬ (bI (0 ≤ a1 ∧ a1 < (s.2 6) 3)) = 0) (c_5 : ¬ (bI ((0 : Int) ≤ a2 ∧ a2 ≤ (14 : Int))) = 0) (c_6 : ¬ a2 = 14) (c_7 : ¬ a2 < 12) (c_28 : ¬ (bI ((0 : Int) ≤ a3 ∧ a3 ≤ (99 : Int))) = 0) (c_29 : ¬ a2 < 12) (o_38 : (0 ≤ (i32 (2 * a1)) ∧ (i32 (2 * a1)) < 120)) (c_39 : ((s.2 7) (i32 (2 * a1))) = a2) : (0 ≤ (i32 ((i32 (2 * a1)) + 1)) ∧ (i32 ((i32 (2 * a1)) + 1)) < 120) := by
  have hW := tOK_W hp
  have hB := tOK_B hp
  (try simp only [bI_0, bI_n, Classical.not_not] at *)
  (try simp (disch := omega) only [i32_id] at *)
  (try have q1 := turn_lo (h := s.2 6) (i := a1) (w := a2) (n := a3) (by omega))
  (try have q1 := turn_14 (h := s.2 6) (i := a1) (w := a2) (n := a3) (by omega))
  (try have q1 := turn_mid (h := s.2 6) (i := a1) (w := a2) (n := a3) (by omega))
  first
   | done
   | omega
   | assumption
   | (exact (turn_n (fun q => absurd q.1 (by assumption))).1.symm)
   | (exact (turn_n (fun q => absurd q.1 (by assumption))).2.symm)
   | (exact (turn_n (fun q => absurd q.2.1 (by assumption))).1.symm)
   | (exact (turn_n (fun q => absurd q.2.1 (by assumption))).2.symm)
   | (exact (turn_n (fun q => absurd (q1.1.mp q) (by omega))).1.symm)
   | (exact (turn_n (fun q => absurd (q1.1.mp q) (by omega))).2.symm)
   | (rw [(turn_y (q1.1.mpr (by omega))).1, q1.2])
   | (rw [(turn_y (q1.1.mpr (by omega))).2, q1.2]; first | (rw [if_neg (by omega)]) | (rw [if_pos (by omega)]))
theorem vX3_turn_40 (s : MS) (a1 : Int) (a2 : Int) (a3 : Int) (hp : tOK (s.2 6)) (o_1 : (tOK (s.2 6))) (c_3 : ¬ (bI (0 ≤ a1 ∧ a1 < (s.2 6) 3)) = 0) (c_5 : ¬ (bI ((0 : Int) ≤ a2 ∧ a2 ≤ (14 : Int))) = 0) (c_6 : ¬ a2 = 14) (c_7 : ¬ a2 < 12) (c_28 : ¬ (bI ((0 : Int) ≤ a3 ∧ a3 ≤ (99 : Int))) = 0) (c_29 : ¬ a2 < 12) (o_38 : (0 ≤ (i32 (2 * a1)) ∧ (i32 (2 * a1)) < 120)) (c_39 : ((s.2 7) (i32 (2 * a1))) = a2) (o_42 : (0 ≤ (i32 ((i32 (2 * a1)) + 1)) ∧ (i32 ((i32 (2 * a1)) + 1)) < 120)) (c_43 : ((s.2 7) (i32 ((i32 (2 * a1)) + 1))) = a3) : (upI (upI (s.2 7) (i32 (2 * a1)) a2) (i32 ((i32 (2 * a1)) + 1)) a3) = (turnA (s.2 6) (s.2 7) a1 a2 a3) := by
  have hW := tOK_W hp
  have hB := tOK_B hp
  (try simp only [bI_0, bI_n, Classical.not_not] at *)
  (try simp (disch := omega) only [i32_id] at *)
  (try have q1 := turn_lo (h := s.2 6) (i := a1) (w := a2) (n := a3) (by omega))
  (try have q1 := turn_14 (h := s.2 6) (i := a1) (w := a2) (n := a3) (by omega))
  (try have q1 := turn_mid (h := s.2 6) (i := a1) (w := a2) (n := a3) (by omega))
  first
   | done
   | omega
   | assumption
   | (exact (turn_n (fun q => absurd q.1 (by assumption))).1.symm)
   | (exact (turn_n (fun q => absurd q.1 (by assumption))).2.symm)
   | (exact (turn_n (fun q => absurd q.2.1 (by assumption))).1.symm)
   | (exact (turn_n (fun q => absurd q.2.1 (by assumption))).2.symm)
   | (exact (turn_n (fun q => absurd (q1.1.mp q) (by omega))).1.symm)
   | (exact (turn_n (fun q => absurd (q1.1.mp q) (by omega))).2.symm)
   | (rw [(turn_y (q1.1.mpr (by omega))).1, q1.2])
   | (rw [(turn_y (q1.1.mpr (by omega))).2, q1.2]; first | (rw [if_neg (by omega)]) | (rw [if_pos (by omega)]))
theorem vX3_turn_41 (s : MS) (a1 : Int) (a2 : Int) (a3 : Int) (hp : tOK (s.2 6)) (o_1 : (tOK (s.2 6))) (c_3 : ¬ (bI (0 ≤ a1 ∧ a1 < (s.2 6) 3)) = 0) (c_5 : ¬ (bI ((0 : Int) ≤ a2 ∧ a2 ≤ (14 : Int))) = 0) (c_6 : ¬ a2 = 14) (c_7 : ¬ a2 < 12) (c_28 : ¬ (bI ((0 : Int) ≤ a3 ∧ a3 ≤ (99 : Int))) = 0) (c_29 : ¬ a2 < 12) (o_38 : (0 ≤ (i32 (2 * a1)) ∧ (i32 (2 * a1)) < 120)) (c_39 : ((s.2 7) (i32 (2 * a1))) = a2) (o_42 : (0 ≤ (i32 ((i32 (2 * a1)) + 1)) ∧ (i32 ((i32 (2 * a1)) + 1)) < 120)) (c_43 : ((s.2 7) (i32 ((i32 (2 * a1)) + 1))) = a3) : 0 = (rTurn (s.2 6) (s.2 7) a1 a2 a3) := by
  have hW := tOK_W hp
  have hB := tOK_B hp
  (try simp only [bI_0, bI_n, Classical.not_not] at *)
  (try simp (disch := omega) only [i32_id] at *)
  (try have q1 := turn_lo (h := s.2 6) (i := a1) (w := a2) (n := a3) (by omega))
  (try have q1 := turn_14 (h := s.2 6) (i := a1) (w := a2) (n := a3) (by omega))
  (try have q1 := turn_mid (h := s.2 6) (i := a1) (w := a2) (n := a3) (by omega))
  first
   | done
   | omega
   | assumption
   | (exact (turn_n (fun q => absurd q.1 (by assumption))).1.symm)
   | (exact (turn_n (fun q => absurd q.1 (by assumption))).2.symm)
   | (exact (turn_n (fun q => absurd q.2.1 (by assumption))).1.symm)
   | (exact (turn_n (fun q => absurd q.2.1 (by assumption))).2.symm)
   | (exact (turn_n (fun q => absurd (q1.1.mp q) (by omega))).1.symm)
   | (exact (turn_n (fun q => absurd (q1.1.mp q) (by omega))).2.symm)
   | (rw [(turn_y (q1.1.mpr (by omega))).1, q1.2])
   | (rw [(turn_y (q1.1.mpr (by omega))).2, q1.2]; first | (rw [if_neg (by omega)]) | (rw [if_pos (by omega)]))
theorem vX3_turn_42 (s : MS) (a1 : Int) (a2 : Int) (a3 : Int) (hp : tOK (s.2 6)) (o_1 : (tOK (s.2 6))) (c_3 : ¬ (bI (0 ≤ a1 ∧ a1 < (s.2 6) 3)) = 0) (c_5 : ¬ (bI ((0 : Int) ≤ a2 ∧ a2 ≤ (14 : Int))) = 0) (c_6 : ¬ a2 = 14) (c_7 : ¬ a2 < 12) (c_28 : ¬ (bI ((0 : Int) ≤ a3 ∧ a3 ≤ (99 : Int))) = 0) (c_29 : ¬ a2 < 12) (o_38 : (0 ≤ (i32 (2 * a1)) ∧ (i32 (2 * a1)) < 120)) (c_39 : ((s.2 7) (i32 (2 * a1))) = a2) (o_42 : (0 ≤ (i32 ((i32 (2 * a1)) + 1)) ∧ (i32 ((i32 (2 * a1)) + 1)) < 120)) (c_43 : ¬ ((s.2 7) (i32 ((i32 (2 * a1)) + 1))) = a3) : (upI (upI (s.2 7) (i32 (2 * a1)) a2) (i32 ((i32 (2 * a1)) + 1)) a3) = (turnA (s.2 6) (s.2 7) a1 a2 a3) := by
  have hW := tOK_W hp
  have hB := tOK_B hp
  (try simp only [bI_0, bI_n, Classical.not_not] at *)
  (try simp (disch := omega) only [i32_id] at *)
  (try have q1 := turn_lo (h := s.2 6) (i := a1) (w := a2) (n := a3) (by omega))
  (try have q1 := turn_14 (h := s.2 6) (i := a1) (w := a2) (n := a3) (by omega))
  (try have q1 := turn_mid (h := s.2 6) (i := a1) (w := a2) (n := a3) (by omega))
  first
   | done
   | omega
   | assumption
   | (exact (turn_n (fun q => absurd q.1 (by assumption))).1.symm)
   | (exact (turn_n (fun q => absurd q.1 (by assumption))).2.symm)
   | (exact (turn_n (fun q => absurd q.2.1 (by assumption))).1.symm)
   | (exact (turn_n (fun q => absurd q.2.1 (by assumption))).2.symm)
   | (exact (turn_n (fun q => absurd (q1.1.mp q) (by omega))).1.symm)
   | (exact (turn_n (fun q => absurd (q1.1.mp q) (by omega))).2.symm)
   | (rw [(turn_y (q1.1.mpr (by omega))).1, q1.2])
   | (rw [(turn_y (q1.1.mpr (by omega))).2, q1.2]; first | (rw [if_neg (by omega)]) | (rw [if_pos (by omega)]))
theorem vX3_turn_43 (s : MS) (a1 : Int) (a2 : Int) (a3 : Int) (hp : tOK (s.2 6)) (o_1 : (tOK (s.2 6))) (c_3 : ¬ (bI (0 ≤ a1 ∧ a1 < (s.2 6) 3)) = 0) (c_5 : ¬ (bI ((0 : Int) ≤ a2 ∧ a2 ≤ (14 : Int))) = 0) (c_6 : ¬ a2 = 14) (c_7 : ¬ a2 < 12) (c_28 : ¬ (bI ((0 : Int) ≤ a3 ∧ a3 ≤ (99 : Int))) = 0) (c_29 : ¬ a2 < 12) (o_38 : (0 ≤ (i32 (2 * a1)) ∧ (i32 (2 * a1)) < 120)) (c_39 : ((s.2 7) (i32 (2 * a1))) = a2) (o_42 : (0 ≤ (i32 ((i32 (2 * a1)) + 1)) ∧ (i32 ((i32 (2 * a1)) + 1)) < 120)) (c_43 : ¬ ((s.2 7) (i32 ((i32 (2 * a1)) + 1))) = a3) : 1 = (rTurn (s.2 6) (s.2 7) a1 a2 a3) := by
  have hW := tOK_W hp
  have hB := tOK_B hp
  (try simp only [bI_0, bI_n, Classical.not_not] at *)
  (try simp (disch := omega) only [i32_id] at *)
  (try have q1 := turn_lo (h := s.2 6) (i := a1) (w := a2) (n := a3) (by omega))
  (try have q1 := turn_14 (h := s.2 6) (i := a1) (w := a2) (n := a3) (by omega))
  (try have q1 := turn_mid (h := s.2 6) (i := a1) (w := a2) (n := a3) (by omega))
  first
   | done
   | omega
   | assumption
   | (exact (turn_n (fun q => absurd q.1 (by assumption))).1.symm)
   | (exact (turn_n (fun q => absurd q.1 (by assumption))).2.symm)
   | (exact (turn_n (fun q => absurd q.2.1 (by assumption))).1.symm)
   | (exact (turn_n (fun q => absurd q.2.1 (by assumption))).2.symm)
   | (exact (turn_n (fun q => absurd (q1.1.mp q) (by omega))).1.symm)
   | (exact (turn_n (fun q => absurd (q1.1.mp q) (by omega))).2.symm)
   | (rw [(turn_y (q1.1.mpr (by omega))).1, q1.2])
   | (rw [(turn_y (q1.1.mpr (by omega))).2, q1.2]; first | (rw [if_neg (by omega)]) | (rw [if_pos (by omega)]))
theorem vX3_turn_44 (s : MS) (a1 : Int) (a2 : Int) (a3 : Int) (hp : tOK (s.2 6)) (o_1 : (tOK (s.2 6))) (c_3 : ¬ (bI (0 ≤ a1 ∧ a1 < (s.2 6) 3)) = 0) (c_5 : ¬ (bI ((0 : Int) ≤ a2 ∧ a2 ≤ (14 : Int))) = 0) (c_6 : ¬ a2 = 14) (c_7 : ¬ a2 < 12) (c_28 : (bI ((0 : Int) ≤ a3 ∧ a3 ≤ (99 : Int))) = 0) : (s.2 7) = (turnA (s.2 6) (s.2 7) a1 a2 a3) := by
  have hW := tOK_W hp
  have hB := tOK_B hp
  (try simp only [bI_0, bI_n, Classical.not_not] at *)
  (try simp (disch := omega) only [i32_id] at *)
  (try have q1 := turn_lo (h := s.2 6) (i := a1) (w := a2) (n := a3) (by omega))
  (try have q1 := turn_14 (h := s.2 6) (i := a1) (w := a2) (n := a3) (by omega))
  (try have q1 := turn_mid (h := s.2 6) (i := a1) (w := a2) (n := a3) (by omega))
  first
   | done
   | omega
   | assumption
   | (exact (turn_n (fun q => absurd q.1 (by assumption))).1.symm)
   | (exact (turn_n (fun q => absurd q.1 (by assumption))).2.symm)
   | (exact (turn_n (fun q => absurd q.2.1 (by assumption))).1.symm)
   | (exact (turn_n (fun q => absurd q.2.1 (by assumption))).2.symm)
   | (exact (turn_n (fun q => absurd (q1.1.mp q) (by omega))).1.symm)
   | (exact (turn_n (fun q => absurd (q1.1.mp q) (by omega))).2.symm)
   | (rw [(turn_y (q1.1.mpr (by omega))).1, q1.2])
   | (rw [(turn_y (q1.1.mpr (by omega))).2, q1.2]; first | (rw [if_neg (by omega)]) | (rw [if_pos (by omega)]))
theorem vX3_turn_45 (s : MS) (a1 : Int) (a2 : Int) (a3 : Int) (hp : tOK (s.2 6)) (o_1 : (tOK (s.2 6))) (c_3 : ¬ (bI (0 ≤ a1 ∧ a1 < (s.2 6) 3)) = 0) (c_5 : ¬ (bI ((0 : Int) ≤ a2 ∧ a2 ≤ (14 : Int))) = 0) (c_6 : ¬ a2 = 14) (c_7 : ¬ a2 < 12) (c_28 : (bI ((0 : Int) ≤ a3 ∧ a3 ≤ (99 : Int))) = 0) : (-2) = (rTurn (s.2 6) (s.2 7) a1 a2 a3) := by
  have hW := tOK_W hp
  have hB := tOK_B hp
  (try simp only [bI_0, bI_n, Classical.not_not] at *)
  (try simp (disch := omega) only [i32_id] at *)
  (try have q1 := turn_lo (h := s.2 6) (i := a1) (w := a2) (n := a3) (by omega))
  (try have q1 := turn_14 (h := s.2 6) (i := a1) (w := a2) (n := a3) (by omega))
  (try have q1 := turn_mid (h := s.2 6) (i := a1) (w := a2) (n := a3) (by omega))
  first
   | done
   | omega
   | assumption
   | (exact (turn_n (fun q => absurd q.1 (by assumption))).1.symm)
   | (exact (turn_n (fun q => absurd q.1 (by assumption))).2.symm)
   | (exact (turn_n (fun q => absurd q.2.1 (by assumption))).1.symm)
   | (exact (turn_n (fun q => absurd q.2.1 (by assumption))).2.symm)
   | (exact (turn_n (fun q => absurd (q1.1.mp q) (by omega))).1.symm)
   | (exact (turn_n (fun q => absurd (q1.1.mp q) (by omega))).2.symm)
   | (rw [(turn_y (q1.1.mpr (by omega))).1, q1.2])
   | (rw [(turn_y (q1.1.mpr (by omega))).2, q1.2]; first | (rw [if_neg (by omega)]) | (rw [if_pos (by omega)]))
theorem vX3_turn_46 (s : MS) (a1 : Int) (a2 : Int) (a3 : Int) (hp : tOK (s.2 6)) (o_1 : (tOK (s.2 6))) (c_3 : ¬ (bI (0 ≤ a1 ∧ a1 < (s.2 6) 3)) = 0) (c_5 : ¬ (bI ((0 : Int) ≤ a2 ∧ a2 ≤ (14 : Int))) = 0) (c_6 : a2 = 14) (c_47 : ¬ (bI ((0 : Int) ≤ a3 ∧ a3 ≤ (i32 ((s.2 6 0) - 1)))) = 0) (c_48 : a2 < 12) : (0 ≤ (i32 (2 * a1)) ∧ (i32 (2 * a1)) < 120) := by
  have hW := tOK_W hp
  have hB := tOK_B hp
  (try simp only [bI_0, bI_n, Classical.not_not] at *)
  (try simp (disch := omega) only [i32_id] at *)
  (try have q1 := turn_lo (h := s.2 6) (i := a1) (w := a2) (n := a3) (by omega))
  (try have q1 := turn_14 (h := s.2 6) (i := a1) (w := a2) (n := a3) (by omega))
  (try have q1 := turn_mid (h := s.2 6) (i := a1) (w := a2) (n := a3) (by omega))
  first
   | done
   | omega
   | assumption
   | (exact (turn_n (fun q => absurd q.1 (by assumption))).1.symm)
   | (exact (turn_n (fun q => absurd q.1 (by assumption))).2.symm)
   | (exact (turn_n (fun q => absurd q.2.1 (by assumption))).1.symm)
   | (exact (turn_n (fun q => absurd q.2.1 (by assumption))).2.symm)
   | (exact (turn_n (fun q => absurd (q1.1.mp q) (by omega))).1.symm)
   | (exact (turn_n (fun q => absurd (q1.1.mp q) (by omega))).2.symm)
   | (rw [(turn_y (q1.1.mpr (by omega))).1, q1.2])
   | (rw [(turn_y (q1.1.mpr (by omega))).2, q1.2]; first | (rw [if_neg (by omega)]) | (rw [if_pos (by omega)]))
theorem vX3_turn_47 (s : MS) (a1 : Int) (a2 : Int) (a3 : Int) (hp : tOK (s.2 6)) (o_1 : (tOK (s.2 6))) (c_3 : ¬ (bI (0 ≤ a1 ∧ a1 < (s.2 6) 3)) = 0) (c_5 : ¬ (bI ((0 : Int) ≤ a2 ∧ a2 ≤ (14 : Int))) = 0) (c_6 : a2 = 14) (c_47 : ¬ (bI ((0 : Int) ≤ a3 ∧ a3 ≤ (i32 ((s.2 6 0) - 1)))) = 0) (c_48 : a2 < 12) (o_49 : (0 ≤ (i32 (2 * a1)) ∧ (i32 (2 * a1)) < 120)) (c_50 : ¬ ((s.2 7) (i32 (2 * a1))) = a2) : (0 ≤ (i32 ((i32 (2 * a1)) + 1)) ∧ (i32 ((i32 (2 * a1)) + 1)) < 120) := by
  have hW := tOK_W hp
  have hB := tOK_B hp
  (try simp only [bI_0, bI_n, Classical.not_not] at *)
  (try simp (disch := omega) only [i32_id] at *)
  (try have q1 := turn_lo (h := s.2 6) (i := a1) (w := a2) (n := a3) (by omega))
  (try have q1 := turn_14 (h := s.2 6) (i := a1) (w := a2) (n := a3) (by omega))
  (try have q1 := turn_mid (h := s.2 6) (i := a1) (w := a2) (n := a3) (by omega))
  first
   | done
   | omega
   | assumption
   | (exact (turn_n (fun q => absurd q.1 (by assumption))).1.symm)
   | (exact (turn_n (fun q => absurd q.1 (by assumption))).2.symm)
   | (exact (turn_n (fun q => absurd q.2.1 (by assumption))).1.symm)
   | (exact (turn_n (fun q => absurd q.2.1 (by assumption))).2.symm)
   | (exact (turn_n (fun q => absurd (q1.1.mp q) (by omega))).1.symm)
   | (exact (turn_n (fun q => absurd (q1.1.mp q) (by omega))).2.symm)
   | (rw [(turn_y (q1.1.mpr (by omega))).1, q1.2])
   | (rw [(turn_y (q1.1.mpr (by omega))).2, q1.2]; first | (rw [if_neg (by omega)]) | (rw [if_pos (by omega)]))
theorem vX3_turn_48 (s : MS) (a1 : Int) (a2 : Int) (a3 : Int) (hp : tOK (s.2 6)) (o_1 : (tOK (s.2 6))) (c_3 : ¬ (bI (0 ≤ a1 ∧ a1 < (s.2 6) 3)) = 0) (c_5 : ¬ (bI ((0 : Int) ≤ a2 ∧ a2 ≤ (14 : Int))) = 0) (c_6 : a2 = 14) (c_47 : ¬ (bI ((0 : Int) ≤ a3 ∧ a3 ≤ (i32 ((s.2 6 0) - 1)))) = 0) (c_48 : a2 < 12) (o_49 : (0 ≤ (i32 (2 * a1)) ∧ (i32 (2 * a1)) < 120)) (c_50 : ¬ ((s.2 7) (i32 (2 * a1))) = a2) (o_51 : (0 ≤ (i32 ((i32 (2 * a1)) + 1)) ∧ (i32 ((i32 (2 * a1)) + 1)) < 120)) : (upI (upI (s.2 7) (i32 (2 * a1)) a2) (i32 ((i32 (2 * a1)) + 1)) (-1)) = (turnA (s.2 6) (s.2 7) a1 a2 a3) := by
  have hW := tOK_W hp
  have hB := tOK_B hp
  (try simp only [bI_0, bI_n, Classical.not_not] at *)
  (try simp (disch := omega) only [i32_id] at *)
  (try have q1 := turn_lo (h := s.2 6) (i := a1) (w := a2) (n := a3) (by omega))
  (try have q1 := turn_14 (h := s.2 6) (i := a1) (w := a2) (n := a3) (by omega))
  (try have q1 := turn_mid (h := s.2 6) (i := a1) (w := a2) (n := a3) (by omega))
  first
   | done
   | omega
   | assumption
   | (exact (turn_n (fun q => absurd q.1 (by assumption))).1.symm)
   | (exact (turn_n (fun q => absurd q.1 (by assumption))).2.symm)
   | (exact (turn_n (fun q => absurd q.2.1 (by assumption))).1.symm)
   | (exact (turn_n (fun q => absurd q.2.1 (by assumption))).2.symm)
   | (exact (turn_n (fun q => absurd (q1.1.mp q) (by omega))).1.symm)
   | (exact (turn_n (fun q => absurd (q1.1.mp q) (by omega))).2.symm)
   | (rw [(turn_y (q1.1.mpr (by omega))).1, q1.2])
   | (rw [(turn_y (q1.1.mpr (by omega))).2, q1.2]; first | (rw [if_neg (by omega)]) | (rw [if_pos (by omega)]))
theorem vX3_turn_49 (s : MS) (a1 : Int) (a2 : Int) (a3 : Int) (hp : tOK (s.2 6)) (o_1 : (tOK (s.2 6))) (c_3 : ¬ (bI (0 ≤ a1 ∧ a1 < (s.2 6) 3)) = 0) (c_5 : ¬ (bI ((0 : Int) ≤ a2 ∧ a2 ≤ (14 : Int))) = 0) (c_6 : a2 = 14) (c_47 : ¬ (bI ((0 : Int) ≤ a3 ∧ a3 ≤ (i32 ((s.2 6 0) - 1)))) = 0) (c_48 : a2 < 12) (o_49 : (0 ≤ (i32 (2 * a1)) ∧ (i32 (2 * a1)) < 120)) (c_50 : ¬ ((s.2 7) (i32 (2 * a1))) = a2) (o_51 : (0 ≤ (i32 ((i32 (2 * a1)) + 1)) ∧ (i32 ((i32 (2 * a1)) + 1)) < 120)) : 1 = (rTurn (s.2 6) (s.2 7) a1 a2 a3) := by
  have hW := tOK_W hp
  have hB := tOK_B hp
  (try simp only [bI_0, bI_n, Classical.not_not] at *)
  (try simp (disch := omega) only [i32_id] at *)
  (try have q1 := turn_lo (h := s.2 6) (i := a1) (w := a2) (n := a3) (by omega))
  (try have q1 := turn_14 (h := s.2 6) (i := a1) (w := a2) (n := a3) (by omega))
  (try have q1 := turn_mid (h := s.2 6) (i := a1) (w := a2) (n := a3) (by omega))
  first
   | done
   | omega
   | assumption
   | (exact (turn_n (fun q => absurd q.1 (by assumption))).1.symm)
   | (exact (turn_n (fun q => absurd q.1 (by assumption))).2.symm)
   | (exact (turn_n (fun q => absurd q.2.1 (by assumption))).1.symm)
   | (exact (turn_n (fun q => absurd q.2.1 (by assumption))).2.symm)
   | (exact (turn_n (fun q => absurd (q1.1.mp q) (by omega))).1.symm)
   | (exact (turn_n (fun q => absurd (q1.1.mp q) (by omega))).2.symm)
   | (rw [(turn_y (q1.1.mpr (by omega))).1, q1.2])
   | (rw [(turn_y (q1.1.mpr (by omega))).2, q1.2]; first | (rw [if_neg (by omega)]) | (rw [if_pos (by omega)]))
theorem vX3_turn_50 (s : MS) (a1 : Int) (a2 : Int) (a3 : Int) (hp : tOK (s.2 6)) (o_1 : (tOK (s.2 6))) (c_3 : ¬ (bI (0 ≤ a1 ∧ a1 < (s.2 6) 3)) = 0) (c_5 : ¬ (bI ((0 : Int) ≤ a2 ∧ a2 ≤ (14 : Int))) = 0) (c_6 : a2 = 14) (c_47 : ¬ (bI ((0 : Int) ≤ a3 ∧ a3 ≤ (i32 ((s.2 6 0) - 1)))) = 0) (c_48 : a2 < 12) (o_49 : (0 ≤ (i32 (2 * a1)) ∧ (i32 (2 * a1)) < 120)) (c_50 : ((s.2 7) (i32 (2 * a1))) = a2) : (0 ≤ (i32 ((i32 (2 * a1)) + 1)) ∧ (i32 ((i32 (2 * a1)) + 1)) < 120) := by
  have hW := tOK_W hp
  have hB := tOK_B hp
  (try simp only [bI_0, bI_n, Classical.not_not] at *)
  (try simp (disch := omega) only [i32_id] at *)
  (try have q1 := turn_lo (h := s.2 6) (i := a1) (w := a2) (n := a3) (by omega))
  (try have q1 := turn_14 (h := s.2 6) (i := a1) (w := a2) (n := a3) (by omega))
  (try have q1 := turn_mid (h := s.2 6) (i := a1) (w := a2) (n := a3) (by omega))
  first
   | done
   | omega
   | assumption
   | (exact (turn_n (fun q => absurd q.1 (by assumption))).1.symm)
   | (exact (turn_n (fun q => absurd q.1 (by assumption))).2.symm)
   | (exact (turn_n (fun q => absurd q.2.1 (by assumption))).1.symm)
   | (exact (turn_n (fun q => absurd q.2.1 (by assumption))).2.symm)
   | (exact (turn_n (fun q => absurd (q1.1.mp q) (by omega))).1.symm)
   | (exact (turn_n (fun q => absurd (q1.1.mp q) (by omega))).2.symm)
   | (rw [(turn_y (q1.1.mpr (by omega))).1, q1.2])
   | (rw [(turn_y (q1.1.mpr (by omega))).2, q1.2]; first | (rw [if_neg (by omega)]) | (rw [if_pos (by omega)]))
theorem vX3_turn_51 (s : MS) (a1 : Int) (a2 : Int) (a3 : Int) (hp : tOK (s.2 6)) (o_1 : (tOK (s.2 6))) (c_3 : ¬ (bI (0 ≤ a1 ∧ a1 < (s.2 6) 3)) = 0) (c_5 : ¬ (bI ((0 : Int) ≤ a2 ∧ a2 ≤ (14 : Int))) = 0) (c_6 : a2 = 14) (c_47 : ¬ (bI ((0 : Int) ≤ a3 ∧ a3 ≤ (i32 ((s.2 6 0) - 1)))) = 0) (c_48 : a2 < 12) (o_49 : (0 ≤ (i32 (2 * a1)) ∧ (i32 (2 * a1)) < 120)) (c_50 : ((s.2 7) (i32 (2 * a1))) = a2) (o_53 : (0 ≤ (i32 ((i32 (2 * a1)) + 1)) ∧ (i32 ((i32 (2 * a1)) + 1)) < 120)) (c_54 : ((s.2 7) (i32 ((i32 (2 * a1)) + 1))) = (-1)) : (upI (upI (s.2 7) (i32 (2 * a1)) a2) (i32 ((i32 (2 * a1)) + 1)) (-1)) = (turnA (s.2 6) (s.2 7) a1 a2 a3) := by
  have hW := tOK_W hp
  have hB := tOK_B hp
  (try simp only [bI_0, bI_n, Classical.not_not] at *)
  (try simp (disch := omega) only [i32_id] at *)
  (try have q1 := turn_lo (h := s.2 6) (i := a1) (w := a2) (n := a3) (by omega))
  (try have q1 := turn_14 (h := s.2 6) (i := a1) (w := a2) (n := a3) (by omega))
  (try have q1 := turn_mid (h := s.2 6) (i := a1) (w := a2) (n := a3) (by omega))
  first
   | done
   | omega
   | assumption
   | (exact (turn_n (fun q => absurd q.1 (by assumption))).1.symm)
   | (exact (turn_n (fun q => absurd q.1 (by assumption))).2.symm)
   | (exact (turn_n (fun q => absurd q.2.1 (by assumption))).1.symm)
   | (exact (turn_n (fun q => absurd q.2.1 (by assumption))).2.symm)
   | (exact (turn_n (fun q => absurd (q1.1.mp q) (by omega))).1.symm)
   | (exact (turn_n (fun q => absurd (q1.1.mp q) (by omega))).2.symm)
   | (rw [(turn_y (q1.1.mpr (by omega))).1, q1.2])
   | (rw [(turn_y (q1.1.mpr (by omega))).2, q1.2]; first | (rw [if_neg (by omega)]) | (rw [if_pos (by omega)]))
theorem vX3_turn_52 (s : MS) (a1 : Int) (a2 : Int) (a3 : Int) (hp : tOK (s.2 6)) (o_1 : (tOK (s.2 6))) (c_3 : ¬ (bI (0 ≤ a1 ∧ a1 < (s.2 6) 3)) = 0) (c_5 : ¬ (bI ((0 : Int) ≤ a2 ∧ a2 ≤ (14 : Int))) = 0) (c_6 : a2 = 14) (c_47 : ¬ (bI ((0 : Int) ≤ a3 ∧ a3 ≤ (i32 ((s.2 6 0) - 1)))) = 0) (c_48 : a2 < 12) (o_49 : (0 ≤ (i32 (2 * a1)) ∧ (i32 (2 * a1)) < 120)) (c_50 : ((s.2 7) (i32 (2 * a1))) = a2) (o_53 : (0 ≤ (i32 ((i32 (2 * a1)) + 1)) ∧ (i32 ((i32 (2 * a1)) + 1)) < 120)) (c_54 : ((s.2 7) (i32 ((i32 (2 * a1)) + 1))) = (-1)) : 0 = (rTurn (s.2 6) (s.2 7) a1 a2 a3) := by
  have hW := tOK_W hp
  have hB := tOK_B hp
  (try simp only [bI_0, bI_n, Classical.not_not] at *)
  (try simp (disch := omega) only [i32_id] at *)
  (try have q1 := turn_lo (h := s.2 6) (i := a1) (w := a2) (n := a3) (by omega))
  (try have q1 := turn_14 (h := s.2 6) (i := a1) (w := a2) (n := a3) (by omega))
  (try have q1 := turn_mid (h := s.2 6) (i := a1) (w := a2) (n := a3) (by omega))
  first
   | done
   | omega
   | assumption
   | (exact (turn_n (fun q => absurd q.1 (by assumption))).1.symm)
   | (exact (turn_n (fun q => absurd q.1 (by assumption))).2.symm)
   | (exact (turn_n (fun q => absurd q.2.1 (by assumption))).1.symm)
   | (exact (turn_n (fun q => absurd q.2.1 (by assumption))).2.symm)
   | (exact (turn_n (fun q => absurd (q1.1.mp q) (by omega))).1.symm)
   | (exact (turn_n (fun q => absurd (q1.1.mp q) (by omega))).2.symm)
   | (rw [(turn_y (q1.1.mpr (by omega))).1, q1.2])
   | (rw [(turn_y (q1.1.mpr (by omega))).2, q1.2]; first | (rw [if_neg (by omega)]) | (rw [if_pos (by omega)]))
theorem vX3_turn_53 (s : MS) (a1 : Int) (a2 : Int) (a3 : Int) (hp : tOK (s.2 6)) (o_1 : (tOK (s.2 6))) (c_3 : ¬ (bI (0 ≤ a1 ∧ a1 < (s.2 6) 3)) = 0) (c_5 : ¬ (bI ((0 : Int) ≤ a2 ∧ a2 ≤ (14 : Int))) = 0) (c_6 : a2 = 14) (c_47 : ¬ (bI ((0 : Int) ≤ a3 ∧ a3 ≤ (i32 ((s.2 6 0) - 1)))) = 0) (c_48 : a2 < 12) (o_49 : (0 ≤ (i32 (2 * a1)) ∧ (i32 (2 * a1)) < 120)) (c_50 : ((s.2 7) (i32 (2 * a1))) = a2) (o_53 : (0 ≤ (i32 ((i32 (2 * a1)) + 1)) ∧ (i32 ((i32 (2 * a1)) + 1)) < 120)) (c_54 : ¬ ((s.2 7) (i32 ((i32 (2 * a1)) + 1))) = (-1)) : (upI (upI (s.2 7) (i32 (2 * a1)) a2) (i32 ((i32 (2 * a1)) + 1)) (-1)) = (turnA (s.2 6) (s.2 7) a1 a2 a3) := by
  have hW := tOK_W hp
  have hB := tOK_B hp
  (try simp only [bI_0, bI_n, Classical.not_not] at *)
  (try simp (disch := omega) only [i32_id] at *)
  (try have q1 := turn_lo (h := s.2 6) (i := a1) (w := a2) (n := a3) (by omega))
  (try have q1 := turn_14 (h := s.2 6) (i := a1) (w := a2) (n := a3) (by omega))
  (try have q1 := turn_mid (h := s.2 6) (i := a1) (w := a2) (n := a3) (by omega))
  first
   | done
   | omega
   | assumption
   | (exact (turn_n (fun q => absurd q.1 (by assumption))).1.symm)
   | (exact (turn_n (fun q => absurd q.1 (by assumption))).2.symm)
   | (exact (turn_n (fun q => absurd q.2.1 (by assumption))).1.symm)
   | (exact (turn_n (fun q => absurd q.2.1 (by assumption))).2.symm)
   | (exact (turn_n (fun q => absurd (q1.1.mp q) (by omega))).1.symm)
   | (exact (turn_n (fun q => absurd (q1.1.mp q) (by omega))).2.symm)
   | (rw [(turn_y (q1.1.mpr (by omega))).1, q1.2])
   | (rw [(turn_y (q1.1.mpr (by omega))).2, q1.2]; first | (rw [if_neg (by omega)]) | (rw [if_pos (by omega)]))
theorem vX3_turn_54 (s : MS) (a1 : Int) (a2 : Int) (a3 : Int) (hp : tOK (s.2 6)) (o_1 : (tOK (s.2 6))) (c_3 : ¬ (bI (0 ≤ a1 ∧ a1 < (s.2 6) 3)) = 0) (c_5 : ¬ (bI ((0 : Int) ≤ a2 ∧ a2 ≤ (14 : Int))) = 0) (c_6 : a2 = 14) (c_47 : ¬ (bI ((0 : Int) ≤ a3 ∧ a3 ≤ (i32 ((s.2 6 0) - 1)))) = 0) (c_48 : a2 < 12) (o_49 : (0 ≤ (i32 (2 * a1)) ∧ (i32 (2 * a1)) < 120)) (c_50 : ((s.2 7) (i32 (2 * a1))) = a2) (o_53 : (0 ≤ (i32 ((i32 (2 * a1)) + 1)) ∧ (i32 ((i32 (2 * a1)) + 1)) < 120)) (c_54 : ¬ ((s.2 7) (i32 ((i32 (2 * a1)) + 1))) = (-1)) : 1 = (rTurn (s.2 6) (s.2 7) a1 a2 a3) := by
  have hW := tOK_W hp
  have hB := tOK_B hp
  (try simp only [bI_0, bI_n, Classical.not_not] at *)
  (try simp (disch := omega) only [i32_id] at *)
  (try have q1 := turn_lo (h := s.2 6) (i := a1) (w := a2) (n := a3) (by omega))
  (try have q1 := turn_14 (h := s.2 6) (i := a1) (w := a2) (n := a3) (by omega))
  (try have q1 := turn_mid (h := s.2 6) (i := a1) (w := a2) (n := a3) (by omega))
  first
   | done
   | omega
   | assumption
   | (exact (turn_n (fun q => absurd q.1 (by assumption))).1.symm)
   | (exact (turn_n (fun q => absurd q.1 (by assumption))).2.symm)
   | (exact (turn_n (fun q => absurd q.2.1 (by assumption))).1.symm)
   | (exact (turn_n (fun q => absurd q.2.1 (by assumption))).2.symm)
   | (exact (turn_n (fun q => absurd (q1.1.mp q) (by omega))).1.symm)
   | (exact (turn_n (fun q => absurd (q1.1.mp q) (by omega))).2.symm)
   | (rw [(turn_y (q1.1.mpr (by omega))).1, q1.2])
   | (rw [(turn_y (q1.1.mpr (by omega))).2, q1.2]; first | (rw [if_neg (by omega)]) | (rw [if_pos (by omega)]))
theorem vX3_turn_55 (s : MS) (a1 : Int) (a2 : Int) (a3 : Int) (hp : tOK (s.2 6)) (o_1 : (tOK (s.2 6))) (c_3 : ¬ (bI (0 ≤ a1 ∧ a1 < (s.2 6) 3)) = 0) (c_5 : ¬ (bI ((0 : Int) ≤ a2 ∧ a2 ≤ (14 : Int))) = 0) (c_6 : a2 = 14) (c_47 : ¬ (bI ((0 : Int) ≤ a3 ∧ a3 ≤ (i32 ((s.2 6 0) - 1)))) = 0) (c_48 : ¬ a2 < 12) : (0 ≤ (i32 (2 * a1)) ∧ (i32 (2 * a1)) < 120) := by
  have hW := tOK_W hp
  have hB := tOK_B hp
  (try simp only [bI_0, bI_n, Classical.not_not] at *)
  (try simp (disch := omega) only [i32_id] at *)
  (try have q1 := turn_lo (h := s.2 6) (i := a1) (w := a2) (n := a3) (by omega))
  (try have q1 := turn_14 (h := s.2 6) (i := a1) (w := a2) (n := a3) (by omega))
  (try have q1 := turn_mid (h := s.2 6) (i := a1) (w := a2) (n := a3) (by omega))
  first
   | done
   | omega
   | assumption
   | (exact (turn_n (fun q => absurd q.1 (by assumption))).1.symm)
   | (exact (turn_n (fun q => absurd q.1 (by assumption))).2.symm)
   | (exact (turn_n (fun q => absurd q.2.1 (by assumption))).1.symm)
   | (exact (turn_n (fun q => absurd q.2.1 (by assumption))).2.symm)
   | (exact (turn_n (fun q => absurd (q1.1.mp q) (by omega))).1.symm)
   | (exact (turn_n (fun q => absurd (q1.1.mp q) (by omega))).2.symm)
   | (rw [(turn_y (q1.1.mpr (by omega))).1, q1.2])
   | (rw [(turn_y (q1.1.mpr (by omega))).2, q1.2]; first | (rw [if_neg (by omega)]) | (rw [if_pos (by omega)]))
theorem vX3_turn_56 (s : MS) (a1 : Int) (a2 : Int) (a3 : Int) (hp : tOK (s.2 6)) (o_1 : (tOK (s.2 6))) (c_3 : ¬ (bI (0 ≤ a1 ∧ a1 < (s.2 6) 3)) = 0) (c_5 : ¬ (bI ((0 : Int) ≤ a2 ∧ a2 ≤ (14 : Int))) = 0) (c_6 : a2 = 14) (c_47 : ¬ (bI ((0 : Int) ≤ a3 ∧ a3 ≤ (i32 ((s.2 6 0) - 1)))) = 0) (c_48 : ¬ a2 < 12) (o_57 : (0 ≤ (i32 (2 * a1)) ∧ (i32 (2 * a1)) < 120)) (c_58 : ¬ ((s.2 7) (i32 (2 * a1))) = a2) : (0 ≤ (i32 ((i32 (2 * a1)) + 1)) ∧ (i32 ((i32 (2 * a1)) + 1)) < 120) := by
  have hW := tOK_W hp
  have hB := tOK_B hp
  (try simp only [bI_0, bI_n, Classical.not_not] at *)
  (try simp (disch := omega) only [i32_id] at *)
  (try have q1 := turn_lo (h := s.2 6) (i := a1) (w := a2) (n := a3) (by omega))
  (try have q1 := turn_14 (h := s.2 6) (i := a1) (w := a2) (n := a3) (by omega))
  (try have q1 := turn_mid (h := s.2 6) (i := a1) (w := a2) (n := a3) (by omega))
  first
   | done
   | omega
   | assumption
   | (exact (turn_n (fun q => absurd q.1 (by assumption))).1.symm)
   | (exact (turn_n (fun q => absurd q.1 (by assumption))).2.symm)
   | (exact (turn_n (fun q => absurd q.2.1 (by assumption))).1.symm)
   | (exact (turn_n (fun q => absurd q.2.1 (by assumption))).2.symm)
   | (exact (turn_n (fun q => absurd (q1.1.mp q) (by omega))).1.symm)
   | (exact (turn_n (fun q => absurd (q1.1.mp q) (by omega))).2.symm)
   | (rw [(turn_y (q1.1.mpr (by omega))).1, q1.2])
   | (rw [(turn_y (q1.1.mpr (by omega))).2, q1.2]; first | (rw [if_neg (by omega)]) | (rw [if_pos (by omega)]))
theorem vX3_turn_57 (s : MS) (a1 : Int) (a2 : Int) (a3 : Int) (hp : tOK (s.2 6)) (o_1 : (tOK (s.2 6))) (c_3 : ¬ (bI (0 ≤ a1 ∧ a1 < (s.2 6) 3)) = 0) (c_5 : ¬ (bI ((0 : Int) ≤ a2 ∧ a2 ≤ (14 : Int))) = 0) (c_6 : a2 = 14) (c_47 : ¬ (bI ((0 : Int) ≤ a3 ∧ a3 ≤ (i32 ((s.2 6 0) - 1)))) = 0) (c_48 : ¬ a2 < 12) (o_57 : (0 ≤ (i32 (2 * a1)) ∧ (i32 (2 * a1)) < 120)) (c_58 : ¬ ((s.2 7) (i32 (2 * a1))) = a2) (o_59 : (0 ≤ (i32 ((i32 (2 * a1)) + 1)) ∧ (i32 ((i32 (2 * a1)) + 1)) < 120)) : (upI (upI (s.2 7) (i32 (2 * a1)) a2) (i32 ((i32 (2 * a1)) + 1)) a3) = (turnA (s.2 6) (s.2 7) a1 a2 a3) := by
  have hW := tOK_W hp
  have hB := tOK_B hp
  (try simp only [bI_0, bI_n, Classical.not_not] at *)
  (try simp (disch := omega) only [i32_id] at *)
  (try have q1 := turn_lo (h := s.2 6) (i := a1) (w := a2) (n := a3) (by omega))
  (try have q1 := turn_14 (h := s.2 6) (i := a1) (w := a2) (n := a3) (by omega))
  (try have q1 := turn_mid (h := s.2 6) (i := a1) (w := a2) (n := a3) (by omega))
  first
   | done
   | omega
   | assumption
   | (exact (turn_n (fun q => absurd q.1 (by assumption))).1.symm)
   | (exact (turn_n (fun q => absurd q.1 (by assumption))).2.symm)
   | (exact (turn_n (fun q => absurd q.2.1 (by assumption))).1.symm)
   | (exact (turn_n (fun q => absurd q.2.1 (by assumption))).2.symm)
   | (exact (turn_n (fun q => absurd (q1.1.mp q) (by omega))).1.symm)
   | (exact (turn_n (fun q => absurd (q1.1.mp q) (by omega))).2.symm)
   | (rw [(turn_y (q1.1.mpr (by omega))).1, q1.2])
   | (rw [(turn_y (q1.1.mpr (by omega))).2, q1.2]; first | (rw [if_neg (by omega)]) | (rw [if_pos (by omega)]))
theorem vX3_turn_58 (s : MS) (a1 : Int) (a2 : Int) (a3 : Int) (hp : tOK (s.2 6)) (o_1 : (tOK (s.2 6))) (c_3 : ¬ (bI (0 ≤ a1 ∧ a1 < (s.2 6) 3)) = 0) (c_5 : ¬ (bI ((0 : Int) ≤ a2 ∧ a2 ≤ (14 : Int))) = 0) (c_6 : a2 = 14) (c_47 : ¬ (bI ((0 : Int) ≤ a3 ∧ a3 ≤ (i32 ((s.2 6 0) - 1)))) = 0) (c_48 : ¬ a2 < 12) (o_57 : (0 ≤ (i32 (2 * a1)) ∧ (i32 (2 * a1)) < 120)) (c_58 : ¬ ((s.2 7) (i32 (2 * a1))) = a2) (o_59 : (0 ≤ (i32 ((i32 (2 * a1)) + 1)) ∧ (i32 ((i32 (2 * a1)) + 1)) < 120)) : 1 = (rTurn (s.2 6) (s.2 7) a1 a2 a3) := by
  have hW := tOK_W hp
  have hB := tOK_B hp
  (try simp only [bI_0, bI_n, Classical.not_not] at *)
  (try simp (disch := omega) only [i32_id] at *)
  (try have q1 := turn_lo (h := s.2 6) (i := a1) (w := a2) (n := a3) (by omega))
  (try have q1 := turn_14 (h := s.2 6) (i := a1) (w := a2) (n := a3) (by omega))
  (try have q1 := turn_mid (h := s.2 6) (i := a1) (w := a2) (n := a3) (by omega))
  first
   | done
   | omega
   | assumption
   | (exact (turn_n (fun q => absurd q.1 (by assumption))).1.symm)
   | (exact (turn_n (fun q => absurd q.1 (by assumption))).2.symm)
   | (exact (turn_n (fun q => absurd q.2.1 (by assumption))).1.symm)
   | (exact (turn_n (fun q => absurd q.2.1 (by assumption))).2.symm)
   | (exact (turn_n (fun q => absurd (q1.1.mp q) (by omega))).1.symm)
   | (exact (turn_n (fun q => absurd (q1.1.mp q) (by omega))).2.symm)
   | (rw [(turn_y (q1.1.mpr (by omega))).1, q1.2])
   | (rw [(turn_y (q1.1.mpr (by omega))).2, q1.2]; first | (rw [if_neg (by omega)]) | (rw [if_pos (by omega)]))
theorem vX3_turn_59 (s : MS) (a1 : Int) (a2 : Int) (a3 : Int) (hp : tOK (s.2 6)) (o_1 : (tOK (s.2 6))) (c_3 : ¬ (bI (0 ≤ a1 ∧ a1 < (s.2 6) 3)) = 0) (c_5 : ¬ (bI ((0 : Int) ≤ a2 ∧ a2 ≤ (14 : Int))) = 0) (c_6 : a2 = 14) (c_47 : ¬ (bI ((0 : Int) ≤ a3 ∧ a3 ≤ (i32 ((s.2 6 0) - 1)))) = 0) (c_48 : ¬ a2 < 12) (o_57 : (0 ≤ (i32 (2 * a1)) ∧ (i32 (2 * a1)) < 120)) (c_58 : ((s.2 7) (i32 (2 * a1))) = a2) : (0 ≤ (i32 ((i32 (2 * a1)) + 1)) ∧ (i32 ((i32 (2 * a1)) + 1)) < 120) := by
  have hW := tOK_W hp
  have hB := tOK_B hp
  (try simp only [bI_0, bI_n, Classical.not_not] at *)
  (try simp (disch := omega) only [i32_id] at *)
  (try have q1 := turn_lo (h := s.2 6) (i := a1) (w := a2) (n := a3) (by omega))
  (try have q1 := turn_14 (h := s.2 6) (i := a1) (w := a2) (n := a3) (by omega))
  (try have q1 := turn_mid (h := s.2 6) (i := a1) (w := a2) (n := a3) (by omega))
  first
   | done
   | omega
   | assumption
   | (exact (turn_n (fun q => absurd q.1 (by assumption))).1.symm)
   | (exact (turn_n (fun q => absurd q.1 (by assumption))).2.symm)
   | (exact (turn_n (fun q => absurd q.2.1 (by assumption))).1.symm)
   | (exact (turn_n (fun q => absurd q.2.1 (by assumption))).2.symm)
   | (exact (turn_n (fun q => absurd (q1.1.mp q) (by omega))).1.symm)
   | (exact (turn_n (fun q => absurd (q1.1.mp q) (by omega))).2.symm)
   | (rw [(turn_y (q1.1.mpr (by omega))).1, q1.2])
   | (rw [(turn_y (q1.1.mpr (by omega))).2, q1.2]; first | (rw [if_neg (by omega)]) | (rw [if_pos (by omega)]))
theorem vX3_turn_60 (s : MS) (a1 : Int) (a2 : Int) (a3 : Int) (hp : tOK (s.2 6)) (o_1 : (tOK (s.2 6))) (c_3 : ¬ (bI (0 ≤ a1 ∧ a1 < (s.2 6) 3)) = 0) (c_5 : ¬ (bI ((0 : Int) ≤ a2 ∧ a2 ≤ (14 : Int))) = 0) (c_6 : a2 = 14) (c_47 : ¬ (bI ((0 : Int) ≤ a3 ∧ a3 ≤ (i32 ((s.2 6 0) - 1)))) = 0) (c_48 : ¬ a2 < 12) (o_57 : (0 ≤ (i32 (2 * a1)) ∧ (i32 (2 * a1)) < 120)) (c_58 : ((s.2 7) (i32 (2 * a1))) = a2) (o_61 : (0 ≤ (i32 ((i32 (2 * a1)) + 1)) ∧ (i32 ((i32 (2 * a1)) + 1)) < 120)) (c_62 : ((s.2 7) (i32 ((i32 (2 * a1)) + 1))) = a3) : (upI (upI (s.2 7) (i32 (2 * a1)) a2) (i32 ((i32 (2 * a1)) + 1)) a3) = (turnA (s.2 6) (s.2 7) a1 a2 a3) := by
  have hW := tOK_W hp
  have hB := tOK_B hp
  (try simp only [bI_0, bI_n, Classical.not_not] at *)
  (try simp (disch := omega) only [i32_id] at *)
  (try have q1 := turn_lo (h := s.2 6) (i := a1) (w := a2) (n := a3) (by omega))
  (try have q1 := turn_14 (h := s.2 6) (i := a1) (w := a2) (n := a3) (by omega))
  (try have q1 := turn_mid (h := s.2 6) (i := a1) (w := a2) (n := a3) (by omega))
  first
   | done
   | omega
   | assumption
   | (exact (turn_n (fun q => absurd q.1 (by assumption))).1.symm)
   | (exact (turn_n (fun q => absurd q.1 (by assumption))).2.symm)
   | (exact (turn_n (fun q => absurd q.2.1 (by assumption))).1.symm)
   | (exact (turn_n (fun q => absurd q.2.1 (by assumption))).2.symm)
   | (exact (turn_n (fun q => absurd (q1.1.mp q) (by omega))).1.symm)
   | (exact (turn_n (fun q => absurd (q1.1.mp q) (by omega))).2.symm)
   | (rw [(turn_y (q1.1.mpr (by omega))).1, q1.2])
   | (rw [(turn_y (q1.1.mpr (by omega))).2, q1.2]; first | (rw [if_neg (by omega)]) | (rw [if_pos (by omega)]))
theorem vX3_turn_61 (s : MS) (a1 : Int) (a2 : Int) (a3 : Int) (hp : tOK (s.2 6)) (o_1 : (tOK (s.2 6))) (c_3 : ¬ (bI (0 ≤ a1 ∧ a1 < (s.2 6) 3)) = 0) (c_5 : ¬ (bI ((0 : Int) ≤ a2 ∧ a2 ≤ (14 : Int))) = 0) (c_6 : a2 = 14) (c_47 : ¬ (bI ((0 : Int) ≤ a3 ∧ a3 ≤ (i32 ((s.2 6 0) - 1)))) = 0) (c_48 : ¬ a2 < 12) (o_57 : (0 ≤ (i32 (2 * a1)) ∧ (i32 (2 * a1)) < 120)) (c_58 : ((s.2 7) (i32 (2 * a1))) = a2) (o_61 : (0 ≤ (i32 ((i32 (2 * a1)) + 1)) ∧ (i32 ((i32 (2 * a1)) + 1)) < 120)) (c_62 : ((s.2 7) (i32 ((i32 (2 * a1)) + 1))) = a3) : 0 = (rTurn (s.2 6) (s.2 7) a1 a2 a3) := by
  have hW := tOK_W hp
  have hB := tOK_B hp
  (try simp only [bI_0, bI_n, Classical.not_not] at *)
  (try simp (disch := omega) only [i32_id] at *)
  (try have q1 := turn_lo (h := s.2 6) (i := a1) (w := a2) (n := a3) (by omega))
  (try have q1 := turn_14 (h := s.2 6) (i := a1) (w := a2) (n := a3) (by omega))
  (try have q1 := turn_mid (h := s.2 6) (i := a1) (w := a2) (n := a3) (by omega))
  first
   | done
   | omega
   | assumption
   | (exact (turn_n (fun q => absurd q.1 (by assumption))).1.symm)
   | (exact (turn_n (fun q => absurd q.1 (by assumption))).2.symm)
   | (exact (turn_n (fun q => absurd q.2.1 (by assumption))).1.symm)
   | (exact (turn_n (fun q => absurd q.2.1 (by assumption))).2.symm)
   | (exact (turn_n (fun q => absurd (q1.1.mp q) (by omega))).1.symm)
   | (exact (turn_n (fun q => absurd (q1.1.mp q) (by omega))).2.symm)
   | (rw [(turn_y (q1.1.mpr (by omega))).1, q1.2])
   | (rw [(turn_y (q1.1.mpr (by omega))).2, q1.2]; first | (rw [if_neg (by omega)]) | (rw [if_pos (by omega)]))
theorem vX3_turn_62 (s : MS) (a1 : Int) (a2 : Int) (a3 : Int) (hp : tOK (s.2 6)) (o_1 : (tOK (s.2 6))) (c_3 : ¬ (bI (0 ≤ a1 ∧ a1 < (s.2 6) 3)) = 0) (c_5 : ¬ (bI ((0 : Int) ≤ a2 ∧ a2 ≤ (14 : Int))) = 0) (c_6 : a2 = 14) (c_47 : ¬ (bI ((0 : Int) ≤ a3 ∧ a3 ≤ (i32 ((s.2 6 0) - 1)))) = 0) (c_48 : ¬ a2 < 12) (o_57 : (0 ≤ (i32 (2 * a1)) ∧ (i32 (2 * a1)) < 120)) (c_58 : ((s.2 7) (i32 (2 * a1))) = a2) (o_61 : (0 ≤ (i32 ((i32 (2 * a1)) + 1)) ∧ (i32 ((i32 (2 * a1)) + 1)) < 120)) (c_62 : ¬ ((s.2 7) (i32 ((i32 (2 * a1)) + 1))) = a3) : (upI (upI (s.2 7) (i32 (2 * a1)) a2) (i32 ((i32 (2 * a1)) + 1)) a3) = (turnA (s.2 6) (s.2 7) a1 a2 a3) := by
  have hW := tOK_W hp
  have hB := tOK_B hp
  (try simp only [bI_0, bI_n, Classical.not_not] at *)
  (try simp (disch := omega) only [i32_id] at *)
  (try have q1 := turn_lo (h := s.2 6) (i := a1) (w := a2) (n := a3) (by omega))
  (try have q1 := turn_14 (h := s.2 6) (i := a1) (w := a2) (n := a3) (by omega))
  (try have q1 := turn_mid (h := s.2 6) (i := a1) (w := a2) (n := a3) (by omega))
  first
   | done
   | omega
   | assumption
   | (exact (turn_n (fun q => absurd q.1 (by assumption))).1.symm)
   | (exact (turn_n (fun q => absurd q.1 (by assumption))).2.symm)
   | (exact (turn_n (fun q => absurd q.2.1 (by assumption))).1.symm)
   | (exact (turn_n (fun q => absurd q.2.1 (by assumption))).2.symm)
   | (exact (turn_n (fun q => absurd (q1.1.mp q) (by omega))).1.symm)
   | (exact (turn_n (fun q => absurd (q1.1.mp q) (by omega))).2.symm)
   | (rw [(turn_y (q1.1.mpr (by omega))).1, q1.2])
   | (rw [(turn_y (q1.1.mpr (by omega))).2, q1.2]; first | (rw [if_neg (by omega)]) | (rw [if_pos (by omega)]))
theorem vX3_turn_63 (s : MS) (a1 : Int) (a2 : Int) (a3 : Int) (hp : tOK (s.2 6)) (o_1 : (tOK (s.2 6))) (c_3 : ¬ (bI (0 ≤ a1 ∧ a1 < (s.2 6) 3)) = 0) (c_5 : ¬ (bI ((0 : Int) ≤ a2 ∧ a2 ≤ (14 : Int))) = 0) (c_6 : a2 = 14) (c_47 : ¬ (bI ((0 : Int) ≤ a3 ∧ a3 ≤ (i32 ((s.2 6 0) - 1)))) = 0) (c_48 : ¬ a2 < 12) (o_57 : (0 ≤ (i32 (2 * a1)) ∧ (i32 (2 * a1)) < 120)) (c_58 : ((s.2 7) (i32 (2 * a1))) = a2) (o_61 : (0 ≤ (i32 ((i32 (2 * a1)) + 1)) ∧ (i32 ((i32 (2 * a1)) + 1)) < 120)) (c_62 : ¬ ((s.2 7) (i32 ((i32 (2 * a1)) + 1))) = a3) : 1 = (rTurn (s.2 6) (s.2 7) a1 a2 a3) := by
  have hW := tOK_W hp
  have hB := tOK_B hp
  (try simp only [bI_0, bI_n, Classical.not_not] at *)
  (try simp (disch := omega) only [i32_id] at *)
  (try have q1 := turn_lo (h := s.2 6) (i := a1) (w := a2) (n := a3) (by omega))
  (try have q1 := turn_14 (h := s.2 6) (i := a1) (w := a2) (n := a3) (by omega))
  (try have q1 := turn_mid (h := s.2 6) (i := a1) (w := a2) (n := a3) (by omega))
  first
   | done
   | omega
   | assumption
   | (exact (turn_n (fun q => absurd q.1 (by assumption))).1.symm)
   | (exact (turn_n (fun q => absurd q.1 (by assumption))).2.symm)
   | (exact (turn_n (fun q => absurd q.2.1 (by assumption))).1.symm)
   | (exact (turn_n (fun q => absurd q.2.1 (by assumption))).2.symm)
   | (exact (turn_n (fun q => absurd (q1.1.mp q) (by omega))).1.symm)
   | (exact (turn_n (fun q => absurd (q1.1.mp q) (by omega))).2.symm)
   | (rw [(turn_y (q1.1.mpr (by omega))).1, q1.2])
   | (rw [(turn_y (q1.1.mpr (by omega))).2, q1.2]; first | (rw [if_neg (by omega)]) | (rw [if_pos (by omega)]))
theorem vX3_turn_64 (s : MS) (a1 : Int) (a2 : Int) (a3 : Int) (hp : tOK (s.2 6)) (o_1 : (tOK (s.2 6))) (c_3 : ¬ (bI (0 ≤ a1 ∧ a1 < (s.2 6) 3)) = 0) (c_5 : ¬ (bI ((0 : Int) ≤ a2 ∧ a2 ≤ (14 : Int))) = 0) (c_6 : a2 = 14) (c_47 : (bI ((0 : Int) ≤ a3 ∧ a3 ≤ (i32 ((s.2 6 0) - 1)))) = 0) : (s.2 7) = (turnA (s.2 6) (s.2 7) a1 a2 a3) := by
  have hW := tOK_W hp
  have hB := tOK_B hp
  (try simp only [bI_0, bI_n, Classical.not_not] at *)
  (try simp (disch := omega) only [i32_id] at *)
  (try have q1 := turn_lo (h := s.2 6) (i := a1) (w := a2) (n := a3) (by omega))
  (try have q1 := turn_14 (h := s.2 6) (i := a1) (w := a2) (n := a3) (by omega))
  (try have q1 := turn_mid (h := s.2 6) (i := a1) (w := a2) (n := a3) (by omega))
  first
   | done
   | omega
   | assumption
   | (exact (turn_n (fun q => absurd q.1 (by assumption))).1.symm)
   | (exact (turn_n (fun q => absurd q.1 (by assumption))).2.symm)
   | (exact (turn_n (fun q => absurd q.2.1 (by assumption))).1.symm)
   | (exact (turn_n (fun q => absurd q.2.1 (by assumption))).2.symm)
   | (exact (turn_n (fun q => absurd (q1.1.mp q) (by omega))).1.symm)
   | (exact (turn_n (fun q => absurd (q1.1.mp q) (by omega))).2.symm)
   | (rw [(turn_y (q1.1.mpr (by omega))).1, q1.2])
   | (rw [(turn_y (q1.1.mpr (by omega))).2, q1.2]; first | (rw [if_neg (by omega)]) | (rw [if_pos (by omega)]))
theorem vX3_turn_65 (s : MS) (a1 : Int) (a2 : Int) (a3 : Int) (hp : tOK (s.2 6)) (o_1 : (tOK (s.2 6))) (c_3 : ¬ (bI (0 ≤ a1 ∧ a1 < (s.2 6) 3)) = 0) (c_5 : ¬ (bI ((0 : Int) ≤ a2 ∧ a2 ≤ (14 : Int))) = 0) (c_6 : a2 = 14) (c_47 : (bI ((0 : Int) ≤ a3 ∧ a3 ≤ (i32 ((s.2 6 0) - 1)))) = 0) : (-2) = (rTurn (s.2 6) (s.2 7) a1 a2 a3) := by
  have hW := tOK_W hp
  have hB := tOK_B hp
  (try simp only [bI_0, bI_n, Classical.not_not] at *)
  (try simp (disch := omega) only [i32_id] at *)
  (try have q1 := turn_lo (h := s.2 6) (i := a1) (w := a2) (n := a3) (by omega))
  (try have q1 := turn_14 (h := s.2 6) (i := a1) (w := a2) (n := a3) (by omega))
  (try have q1 := turn_mid (h := s.2 6) (i := a1) (w := a2) (n := a3) (by omega))
  first
   | done
   | omega
   | assumption
   | (exact (turn_n (fun q => absurd q.1 (by assumption))).1.symm)
   | (exact (turn_n (fun q => absurd q.1 (by assumption))).2.symm)
   | (exact (turn_n (fun q => absurd q.2.1 (by assumption))).1.symm)
   | (exact (turn_n (fun q => absurd q.2.1 (by assumption))).2.symm)
   | (exact (turn_n (fun q => absurd (q1.1.mp q) (by omega))).1.symm)
   | (exact (turn_n (fun q => absurd (q1.1.mp q) (by omega))).2.symm)
   | (rw [(turn_y (q1.1.mpr (by omega))).1, q1.2])
   | (rw [(turn_y (q1.1.mpr (by omega))).2, q1.2]; first | (rw [if_neg (by omega)]) | (rw [if_pos (by omega)]))
theorem ctX3_turn (b : AH) (s : MS) (a1 : Int) (a2 : Int) (a3 : Int) (hp : tOK (s.2 6)) : MC mX3_turn 3 b s [vI a1, vI a2, vI a3] (QX3_turn s a1 a2 a3) := by
  refine MC.of (by decide) rfl (Nat.le_of_ble_eq_true rfl) (JW.steq (s2 := sS (sA s 7 (s.2 7)) 0 (s.1 0)) (by simp only [sA_id, sS_id]) ?_)
  refine bX3_turn_0 b s a1 a2 a3 (s.2 7) (s.1 0) ?_
  have o_1 : (tOK (s.2 6)) := (vX3_turn_1 s a1 a2 a3 hp)
  refine ⟨o_1, ?_⟩
  refine ⟨fun c_3 => ?_, fun c_3 => ?_⟩
  · exact ⟨(rI_c (vX3_turn_3 s a1 a2 a3 hp o_1 c_3)), (sS_c (sA_c rfl (vX3_turn_2 s a1 a2 a3 hp o_1 c_3)) rfl)⟩
  · refine ⟨fun c_5 => ?_, fun c_5 => ?_⟩
    · exact ⟨(rI_c (vX3_turn_5 s a1 a2 a3 hp o_1 c_3 c_5)), (sS_c (sA_c rfl (vX3_turn_4 s a1 a2 a3 hp o_1 c_3 c_5)) rfl)⟩
    · refine ⟨fun c_6 => ?_, fun c_6 => ?_⟩
      · refine ⟨fun c_7 => ?_, fun c_7 => ?_⟩
        · refine ⟨fun c_9 => ?_, fun c_9 => ?_⟩
          · refine ⟨fun c_10 => ?_, fun c_10 => ?_⟩
            · have o_11 : (0 ≤ (i32 (2 * a1)) ∧ (i32 (2 * a1)) < 120) := (vX3_turn_6 s a1 a2 a3 hp o_1 c_3 c_5 c_6 c_7 c_9 c_10)
              refine ⟨o_11, ?_⟩
              refine ⟨fun c_12 => ?_, fun c_12 => ?_⟩
              · have o_13 : (0 ≤ (i32 ((i32 (2 * a1)) + 1)) ∧ (i32 ((i32 (2 * a1)) + 1)) < 120) := (vX3_turn_7 s a1 a2 a3 hp o_1 c_3 c_5 c_6 c_7 c_9 c_10 o_11 c_12)
                refine ⟨o_13, ?_⟩
                exact ⟨(rI_c (vX3_turn_9 s a1 a2 a3 hp o_1 c_3 c_5 c_6 c_7 c_9 c_10 o_11 c_12 o_13)), (sS_c (sA_c rfl (vX3_turn_8 s a1 a2 a3 hp o_1 c_3 c_5 c_6 c_7 c_9 c_10 o_11 c_12 o_13)) rfl)⟩
              · have o_15 : (0 ≤ (i32 ((i32 (2 * a1)) + 1)) ∧ (i32 ((i32 (2 * a1)) + 1)) < 120) := (vX3_turn_10 s a1 a2 a3 hp o_1 c_3 c_5 c_6 c_7 c_9 c_10 o_11 c_12)
                refine ⟨o_15, ?_⟩
                refine ⟨fun c_16 => ?_, fun c_16 => ?_⟩
                · exact ⟨(rI_c (vX3_turn_12 s a1 a2 a3 hp o_1 c_3 c_5 c_6 c_7 c_9 c_10 o_11 c_12 o_15 c_16)), (sS_c (sA_c rfl (vX3_turn_11 s a1 a2 a3 hp o_1 c_3 c_5 c_6 c_7 c_9 c_10 o_11 c_12 o_15 c_16)) rfl)⟩
                · exact ⟨(rI_c (vX3_turn_14 s a1 a2 a3 hp o_1 c_3 c_5 c_6 c_7 c_9 c_10 o_11 c_12 o_15 c_16)), (sS_c (sA_c rfl (vX3_turn_13 s a1 a2 a3 hp o_1 c_3 c_5 c_6 c_7 c_9 c_10 o_11 c_12 o_15 c_16)) rfl)⟩
            · have o_19 : (0 ≤ (i32 (2 * a1)) ∧ (i32 (2 * a1)) < 120) := (vX3_turn_15 s a1 a2 a3 hp o_1 c_3 c_5 c_6 c_7 c_9 c_10)
              refine ⟨o_19, ?_⟩
              refine ⟨fun c_20 => ?_, fun c_20 => ?_⟩
              · have o_21 : (0 ≤ (i32 ((i32 (2 * a1)) + 1)) ∧ (i32 ((i32 (2 * a1)) + 1)) < 120) := (vX3_turn_16 s a1 a2 a3 hp o_1 c_3 c_5 c_6 c_7 c_9 c_10 o_19 c_20)
                refine ⟨o_21, ?_⟩
                exact ⟨(rI_c (vX3_turn_18 s a1 a2 a3 hp o_1 c_3 c_5 c_6 c_7 c_9 c_10 o_19 c_20 o_21)), (sS_c (sA_c rfl (vX3_turn_17 s a1 a2 a3 hp o_1 c_3 c_5 c_6 c_7 c_9 c_10 o_19 c_20 o_21)) rfl)⟩
              · have o_23 : (0 ≤ (i32 ((i32 (2 * a1)) + 1)) ∧ (i32 ((i32 (2 * a1)) + 1)) < 120) := (vX3_turn_19 s a1 a2 a3 hp o_1 c_3 c_5 c_6 c_7 c_9 c_10 o_19 c_20)
                refine ⟨o_23, ?_⟩
                refine ⟨fun c_24 => ?_, fun c_24 => ?_⟩
                · exact ⟨(rI_c (vX3_turn_21 s a1 a2 a3 hp o_1 c_3 c_5 c_6 c_7 c_9 c_10 o_19 c_20 o_23 c_24)), (sS_c (sA_c rfl (vX3_turn_20 s a1 a2 a3 hp o_1 c_3 c_5 c_6 c_7 c_9 c_10 o_19 c_20 o_23 c_24)) rfl)⟩
                · exact ⟨(rI_c (vX3_turn_23 s a1 a2 a3 hp o_1 c_3 c_5 c_6 c_7 c_9 c_10 o_19 c_20 o_23 c_24)), (sS_c (sA_c rfl (vX3_turn_22 s a1 a2 a3 hp o_1 c_3 c_5 c_6 c_7 c_9 c_10 o_19 c_20 o_23 c_24)) rfl)⟩
          · exact ⟨(rI_c (vX3_turn_25 s a1 a2 a3 hp o_1 c_3 c_5 c_6 c_7 c_9)), (sS_c (sA_c rfl (vX3_turn_24 s a1 a2 a3 hp o_1 c_3 c_5 c_6 c_7 c_9)) rfl)⟩
        · refine ⟨fun c_28 => ?_, fun c_28 => ?_⟩
          · refine ⟨fun c_29 => ?_, fun c_29 => ?_⟩
            · have o_30 : (0 ≤ (i32 (2 * a1)) ∧ (i32 (2 * a1)) < 120) := (vX3_turn_26 s a1 a2 a3 hp o_1 c_3 c_5 c_6 c_7 c_28 c_29)
              refine ⟨o_30, ?_⟩
              refine ⟨fun c_31 => ?_, fun c_31 => ?_⟩
              · have o_32 : (0 ≤ (i32 ((i32 (2 * a1)) + 1)) ∧ (i32 ((i32 (2 * a1)) + 1)) < 120) := (vX3_turn_27 s a1 a2 a3 hp o_1 c_3 c_5 c_6 c_7 c_28 c_29 o_30 c_31)
                refine ⟨o_32, ?_⟩
                exact ⟨(rI_c (vX3_turn_29 s a1 a2 a3 hp o_1 c_3 c_5 c_6 c_7 c_28 c_29 o_30 c_31 o_32)), (sS_c (sA_c rfl (vX3_turn_28 s a1 a2 a3 hp o_1 c_3 c_5 c_6 c_7 c_28 c_29 o_30 c_31 o_32)) rfl)⟩
              · have o_34 : (0 ≤ (i32 ((i32 (2 * a1)) + 1)) ∧ (i32 ((i32 (2 * a1)) + 1)) < 120) := (vX3_turn_30 s a1 a2 a3 hp o_1 c_3 c_5 c_6 c_7 c_28 c_29 o_30 c_31)
                refine ⟨o_34, ?_⟩
                refine ⟨fun c_35 => ?_, fun c_35 => ?_⟩
                · exact ⟨(rI_c (vX3_turn_32 s a1 a2 a3 hp o_1 c_3 c_5 c_6 c_7 c_28 c_29 o_30 c_31 o_34 c_35)), (sS_c (sA_c rfl (vX3_turn_31 s a1 a2 a3 hp o_1 c_3 c_5 c_6 c_7 c_28 c_29 o_30 c_31 o_34 c_35)) rfl)⟩
                · exact ⟨(rI_c (vX3_turn_34 s a1 a2 a3 hp o_1 c_3 c_5 c_6 c_7 c_28 c_29 o_30 c_31 o_34 c_35)), (sS_c (sA_c rfl (vX3_turn_33 s a1 a2 a3 hp o_1 c_3 c_5 c_6 c_7 c_28 c_29 o_30 c_31 o_34 c_35)) rfl)⟩
            · have o_38 : (0 ≤ (i32 (2 * a1)) ∧ (i32 (2 * a1)) < 120) := (vX3_turn_35 s a1 a2 a3 hp o_1 c_3 c_5 c_6 c_7 c_28 c_29)
              refine ⟨o_38, ?_⟩
              refine ⟨fun c_39 => ?_, fun c_39 => ?_⟩
              · have o_40 : (0 ≤ (i32 ((i32 (2 * a1)) + 1)) ∧ (i32 ((i32 (2 * a1)) + 1)) < 120) := (vX3_turn_36 s a1 a2 a3 hp o_1 c_3 c_5 c_6 c_7 c_28 c_29 o_38 c_39)
                refine ⟨o_40, ?_⟩
                exact ⟨(rI_c (vX3_turn_38 s a1 a2 a3 hp o_1 c_3 c_5 c_6 c_7 c_28 c_29 o_38 c_39 o_40)), (sS_c (sA_c rfl (vX3_turn_37 s a1 a2 a3 hp o_1 c_3 c_5 c_6 c_7 c_28 c_29 o_38 c_39 o_40)) rfl)⟩
              · have o_42 : (0 ≤ (i32 ((i32 (2 * a1)) + 1)) ∧ (i32 ((i32 (2 * a1)) + 1)) < 120) := (vX3_turn_39 s a1 a2 a3 hp o_1 c_3 c_5 c_6 c_7 c_28 c_29 o_38 c_39)
                refine ⟨o_42, ?_⟩
                refine ⟨fun c_43 => ?_, fun c_43 => ?_⟩
                · exact ⟨(rI_c (vX3_turn_41 s a1 a2 a3 hp o_1 c_3 c_5 c_6 c_7 c_28 c_29 o_38 c_39 o_42 c_43)), (sS_c (sA_c rfl (vX3_turn_40 s a1 a2 a3 hp o_1 c_3 c_5 c_6 c_7 c_28 c_29 o_38 c_39 o_42 c_43)) rfl)⟩
                · exact ⟨(rI_c (vX3_turn_43 s a1 a2 a3 hp o_1 c_3 c_5 c_6 c_7 c_28 c_29 o_38 c_39 o_42 c_43)), (sS_c (sA_c rfl (vX3_turn_42 s a1 a2 a3 hp o_1 c_3 c_5 c_6 c_7 c_28 c_29 o_38 c_39 o_42 c_43)) rfl)⟩
          · exact ⟨(rI_c (vX3_turn_45 s a1 a2 a3 hp o_1 c_3 c_5 c_6 c_7 c_28)), (sS_c (sA_c rfl (vX3_turn_44 s a1 a2 a3 hp o_1 c_3 c_5 c_6 c_7 c_28)) rfl)⟩
      · refine ⟨fun c_47 => ?_, fun c_47 => ?_⟩
        · refine ⟨fun c_48 => ?_, fun c_48 => ?_⟩
          · have o_49 : (0 ≤ (i32 (2 * a1)) ∧ (i32 (2 * a1)) < 120) := (vX3_turn_46 s a1 a2 a3 hp o_1 c_3 c_5 c_6 c_47 c_48)
            refine ⟨o_49, ?_⟩
            refine ⟨fun c_50 => ?_, fun c_50 => ?_⟩
            · have o_51 : (0 ≤ (i32 ((i32 (2 * a1)) + 1)) ∧ (i32 ((i32 (2 * a1)) + 1)) < 120) := (vX3_turn_47 s a1 a2 a3 hp o_1 c_3 c_5 c_6 c_47 c_48 o_49 c_50)
              refine ⟨o_51, ?_⟩
              exact ⟨(rI_c (vX3_turn_49 s a1 a2 a3 hp o_1 c_3 c_5 c_6 c_47 c_48 o_49 c_50 o_51)), (sS_c (sA_c rfl (vX3_turn_48 s a1 a2 a3 hp o_1 c_3 c_5 c_6 c_47 c_48 o_49 c_50 o_51)) rfl)⟩
            · have o_53 : (0 ≤ (i32 ((i32 (2 * a1)) + 1)) ∧ (i32 ((i32 (2 * a1)) + 1)) < 120) := (vX3_turn_50 s a1 a2 a3 hp o_1 c_3 c_5 c_6 c_47 c_48 o_49 c_50)
              refine ⟨o_53, ?_⟩
              refine ⟨fun c_54 => ?_, fun c_54 => ?_⟩
              · exact ⟨(rI_c (vX3_turn_52 s a1 a2 a3 hp o_1 c_3 c_5 c_6 c_47 c_48 o_49 c_50 o_53 c_54)), (sS_c (sA_c rfl (vX3_turn_51 s a1 a2 a3 hp o_1 c_3 c_5 c_6 c_47 c_48 o_49 c_50 o_53 c_54)) rfl)⟩
              · exact ⟨(rI_c (vX3_turn_54 s a1 a2 a3 hp o_1 c_3 c_5 c_6 c_47 c_48 o_49 c_50 o_53 c_54)), (sS_c (sA_c rfl (vX3_turn_53 s a1 a2 a3 hp o_1 c_3 c_5 c_6 c_47 c_48 o_49 c_50 o_53 c_54)) rfl)⟩
          · have o_57 : (0 ≤ (i32 (2 * a1)) ∧ (i32 (2 * a1)) < 120) := (vX3_turn_55 s a1 a2 a3 hp o_1 c_3 c_5 c_6 c_47 c_48)
            refine ⟨o_57, ?_⟩
            refine ⟨fun c_58 => ?_, fun c_58 => ?_⟩
            · have o_59 : (0 ≤ (i32 ((i32 (2 * a1)) + 1)) ∧ (i32 ((i32 (2 * a1)) + 1)) < 120) := (vX3_turn_56 s a1 a2 a3 hp o_1 c_3 c_5 c_6 c_47 c_48 o_57 c_58)
              refine ⟨o_59, ?_⟩
              exact ⟨(rI_c (vX3_turn_58 s a1 a2 a3 hp o_1 c_3 c_5 c_6 c_47 c_48 o_57 c_58 o_59)), (sS_c (sA_c rfl (vX3_turn_57 s a1 a2 a3 hp o_1 c_3 c_5 c_6 c_47 c_48 o_57 c_58 o_59)) rfl)⟩
            · have o_61 : (0 ≤ (i32 ((i32 (2 * a1)) + 1)) ∧ (i32 ((i32 (2 * a1)) + 1)) < 120) := (vX3_turn_59 s a1 a2 a3 hp o_1 c_3 c_5 c_6 c_47 c_48 o_57 c_58)
              refine ⟨o_61, ?_⟩
              refine ⟨fun c_62 => ?_, fun c_62 => ?_⟩
              · exact ⟨(rI_c (vX3_turn_61 s a1 a2 a3 hp o_1 c_3 c_5 c_6 c_47 c_48 o_57 c_58 o_61 c_62)), (sS_c (sA_c rfl (vX3_turn_60 s a1 a2 a3 hp o_1 c_3 c_5 c_6 c_47 c_48 o_57 c_58 o_61 c_62)) rfl)⟩
              · exact ⟨(rI_c (vX3_turn_63 s a1 a2 a3 hp o_1 c_3 c_5 c_6 c_47 c_48 o_57 c_58 o_61 c_62)), (sS_c (sA_c rfl (vX3_turn_62 s a1 a2 a3 hp o_1 c_3 c_5 c_6 c_47 c_48 o_57 c_58 o_61 c_62)) rfl)⟩
        · exact ⟨(rI_c (vX3_turn_65 s a1 a2 a3 hp o_1 c_3 c_5 c_6 c_47)), (sS_c (sA_c rfl (vX3_turn_64 s a1 a2 a3 hp o_1 c_3 c_5 c_6 c_47)) rfl)⟩
