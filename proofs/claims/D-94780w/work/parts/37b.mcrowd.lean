/-! contracts of the reference: sure fewest manyIn left isRest rest -/
set_option maxRecDepth 100000
def HX3_sure_0 (Q : Option AV → MS → Prop) (b : AH) (s : MS) (x1 : Int) (x2 : Int) (x3 : Int) (f11 : Int → Int) (f12 : Int → Int) (f13 : Int → Int) (f14 : Int → Int) (f15 : Int → Int) (f16 : Int → Int) (f17 : Int → Int) (f18 : Int → Int) (f19 : Int → Int) (k0 : Int) (k25 : Int) (k33 : Int) (k34 : Int) : Prop := MW mX3_sure 9 Q b 0 [(0, vR 351), (1, vI x1), (2, vI x2), (3, vI x3)] [] (sS (sS (sS (sS (sA (sA (sA (sA (sA (sA (sA (sA (sA s 11 f11) 12 f12) 13 f13) 14 f14) 15 f15) 16 f16) 17 f17) 18 f18) 19 f19) 0 k0) 25 k25) 33 k33) 34 k34)
theorem bX3_sure_0 {Q : Option AV → MS → Prop} (b : AH) (s : MS) (x1 : Int) (x2 : Int) (x3 : Int) (f11 : Int → Int) (f12 : Int → Int) (f13 : Int → Int) (f14 : Int → Int) (f15 : Int → Int) (f16 : Int → Int) (f17 : Int → Int) (f18 : Int → Int) (f19 : Int → Int) (k0 : Int) (k25 : Int) (k33 : Int) (k34 : Int) (K : ((bI (0 < (s.2 5) 0 ∧ (0 ≤ x1 ∧ x1 ≤ 3) ∧ 0 ≤ x2 ∧ x2 ≤ 200)) = 0 → Q (some (vI (-2))) (sS (sS (sS (sS (sA (sA (sA (sA (sA (sA (sA (sA (sA s 11 f11) 12 f12) 13 f13) 14 f14) 15 f15) 16 f16) 17 f17) 18 f18) 19 f19) 0 0) 25 k25) 33 k33) 34 k34)) ∧ (¬ (bI (0 < (s.2 5) 0 ∧ (0 ≤ x1 ∧ x1 ≤ 3) ∧ 0 ≤ x2 ∧ x2 ≤ 200)) = 0 → (¬ (bI ((0 : Int) ≤ x3 ∧ x3 ≤ (i32 ((s.2 6 1) - 1)))) = 0 → (tOK (s.2 6) ∧ aOK (s.2 6) (s.2 7) ∧ (0 ≤ x1 ∧ x1 ≤ 3) ∧ 0 ≤ x2 ∧ x2 ≤ 200) ∧ ((∀ (f_6 : Int → Int) (f_7 : Int → Int) (f_8 : Int → Int) (f_9 : Int → Int) (f_10 : Int → Int) (k_11 : Int), (NXO (s.2 6) (s.2 7) f_8 ∧ BS f_9 ((s.2 6) 2) (crS (s.2 6) (s.2 7) (s.2 9) x1 (x2).toNat)) → (tOK (s.2 6) ∧ (0 ≤ x3 ∧ x3 < (s.2 6) 1) ∧ ∀ z : Int, 0 ≤ z → z < (s.2 6) 2 → f_9 z = 0 ∨ f_9 z = 1) ∧ ((∀ (f_14 : Int → Int) (r_15 : Int), (sureR (ofB f_9 ((s.2 6) 2)) (fun z => dig ((s.2 6) 0) ((s.2 6) 1) z x3) r_15) → Q (some (vI r_15)) (sS (sS (sS (sS (sA (sA (sA (sA (sA (sA (sA (sA (sA s 11 f_14) 12 f_7) 13 f_8) 14 f14) 15 f15) 16 f16) 17 f17) 18 f_9) 19 f_10) 0 0) 25 k_11) 33 k33) 34 k34)))))) ∧ ((bI ((0 : Int) ≤ x3 ∧ x3 ≤ (i32 ((s.2 6 1) - 1)))) = 0 → Q (some (vI (-2))) (sS (sS (sS (sS (sA (sA (sA (sA (sA (sA (sA (sA (sA s 11 f11) 12 f12) 13 f13) 14 f14) 15 f15) 16 f16) 17 f17) 18 f18) 19 f19) 0 0) 25 k25) 33 k33) 34 k34)))) : HX3_sure_0 Q b s x1 x2 x3 f11 f12 f13 f14 f15 f16 f17 f18 f19 k0 k25 k33 k34 := by
  refine JW.aload_n dX3_sure_0 rfl ?_
  refine JW.iconst dX3_sure_1 rfl ?_
  refine JW.mputI dX3_sure_2 (pX3_77 _) rfl ?_
  refine JW.steq (s2 := sS (sS (sS (sS (sA (sA (sA (sA (sA (sA (sA (sA (sA s 11 f11) 12 f12) 13 f13) 14 f14) 15 f15) 16 f16) 17 f17) 18 f18) 19 f19) 0 0) 25 k25) 33 k33) 34 k34) (by simp only [sA_A, sS_S, sA_S, sA_lt, sS_lt, Nat.reduceLT, id_eq] <;> rfl) ?_
  refine JW.aload_n dX3_sure_5 rfl ?_
  refine JW.iload_n dX3_sure_6 rfl ?_
  refine JW.iload_n dX3_sure_7 rfl ?_
  refine JW.mcall (As := [vI x1, vI x2]) dX3_sure_8 vX3_isCrowd rfl q1985 (ctX3_isCrowd b (sS (sS (sS (sS (sA (sA (sA (sA (sA (sA (sA (sA (sA s 11 f11) 12 f12) 13 f13) 14 f14) 15 f15) 16 f16) 17 f17) 18 f18) 19 f19) 0 0) 25 k25) 33 k33) 34 k34) x1 x2) (Nat.le_of_ble_eq_true rfl) rfl (Nat.le_of_ble_eq_true rfl) ?_
  rintro _ _ ⟨rfl, eq_1⟩
  refine JW.steq (s2 := sS (sS (sS (sS (sA (sA (sA (sA (sA (sA (sA (sA (sA s 11 f11) 12 f12) 13 f13) 14 f14) 15 f15) 16 f16) 17 f17) 18 f18) 19 f19) 0 0) 25 k25) 33 k33) 34 k34) eq_1 ?_
  refine JW.if_eq (tgt := 32) dX3_sure_11 rfl (fun c_2 => ?_) (fun c_2 => ?_)
  · have K := K.1 c_2
    refine JW.bipush dX3_sure_32 rfl ?_
    exact JW.ireturn dX3_sure_34 rfl rfl ⟨_, rfl, K⟩
  · have K := K.2 c_2
    refine JW.iload_n dX3_sure_14 rfl ?_
    refine JW.i2l dX3_sure_15 ?_
    refine JW.lconst (x := 0) dX3_sure_16 rfl ?_
    refine JW.aload_n dX3_sure_17 rfl ?_
    refine JW.mget (v := vR 358) dX3_sure_18 fX3_34 rfl ?_
    refine JW.iconst dX3_sure_21 rfl ?_
    refine JW.mald 6 (x := (s.2 6 1)) dX3_sure_22 (Nat.le_of_ble_eq_true rfl) rfl (by decide) (by decide) rfl ?_
    refine JW.iconst dX3_sure_23 rfl ?_
    refine JW.isub dX3_sure_24 ?_
    refine JW.i2l dX3_sure_25 ?_
    refine JW.mcallS (As := [vL x3, vL 0, vL (i32 ((s.2 6 1) - 1))]) dX3_sure_26 vX3_in q1632 (ctX3_in b (sS (sS (sS (sS (sA (sA (sA (sA (sA (sA (sA (sA (sA s 11 f11) 12 f12) 13 f13) 14 f14) 15 f15) 16 f16) 17 f17) 18 f18) 19 f19) 0 0) 25 k25) 33 k33) 34 k34) x3 0 (i32 ((s.2 6 1) - 1))) (Nat.le_of_ble_eq_true rfl) rfl (Nat.le_of_ble_eq_true rfl) ?_
    rintro _ _ ⟨rfl, eq_3⟩
    refine JW.steq (s2 := sS (sS (sS (sS (sA (sA (sA (sA (sA (sA (sA (sA (sA s 11 f11) 12 f12) 13 f13) 14 f14) 15 f15) 16 f16) 17 f17) 18 f18) 19 f19) 0 0) 25 k25) 33 k33) 34 k34) eq_3 ?_
    refine JW.if_ne (tgt := 35) dX3_sure_29 rfl (fun c_4 => ?_) (fun c_4 => ?_)
    · have K := K.1 c_4
      refine JW.aload_n dX3_sure_35 rfl ?_
      refine JW.iload_n dX3_sure_36 rfl ?_
      refine JW.iload_n dX3_sure_37 rfl ?_
      obtain ⟨o_5, K⟩ := K
      refine JW.mcall (As := [vI x1, vI x2]) dX3_sure_38 vX3_crowdsBehind rfl q1989 (ctX3_crowdsBehind b (sS (sS (sS (sS (sA (sA (sA (sA (sA (sA (sA (sA (sA s 11 f11) 12 f12) 13 f13) 14 f14) 15 f15) 16 f16) 17 f17) 18 f18) 19 f19) 0 0) 25 k25) 33 k33) 34 k34) x1 x2 o_5) (Nat.le_of_ble_eq_true rfl) rfl (Nat.le_of_ble_eq_true rfl) ?_
      rintro _ _ ⟨f_6, f_7, f_8, f_9, f_10, k_11, rfl, rfl, q_12⟩
      refine JW.steq (s2 := sS (sS (sS (sS (sA (sA (sA (sA (sA (sA (sA (sA (sA s 11 f_6) 12 f_7) 13 f_8) 14 f14) 15 f15) 16 f16) 17 f17) 18 f_9) 19 f_10) 0 0) 25 k_11) 33 k33) 34 k34) (by simp only [sA_A, sS_S, sA_S, sA_lt, sS_lt, Nat.reduceLT, id_eq] <;> rfl) ?_
      replace K := K f_6 f_7 f_8 f_9 f_10 k_11 q_12
      refine JW.aload_n dX3_sure_41 rfl ?_
      refine JW.iload_n dX3_sure_42 rfl ?_
      obtain ⟨o_13, K⟩ := K
      refine JW.mcall (As := [vI x3]) dX3_sure_43 vX3_sureAt rfl q2009 (ctX3_sureAt b (sS (sS (sS (sS (sA (sA (sA (sA (sA (sA (sA (sA (sA s 11 f_6) 12 f_7) 13 f_8) 14 f14) 15 f15) 16 f16) 17 f17) 18 f_9) 19 f_10) 0 0) 25 k_11) 33 k33) 34 k34) x3 o_13) (Nat.le_of_ble_eq_true rfl) rfl (Nat.le_of_ble_eq_true rfl) ?_
      rintro _ _ ⟨f_14, r_15, rfl, rfl, q_16⟩
      refine JW.steq (s2 := sS (sS (sS (sS (sA (sA (sA (sA (sA (sA (sA (sA (sA s 11 f_14) 12 f_7) 13 f_8) 14 f14) 15 f15) 16 f16) 17 f17) 18 f_9) 19 f_10) 0 0) 25 k_11) 33 k33) 34 k34) (by simp only [sA_A, sS_S, sA_S, sA_lt, sS_lt, Nat.reduceLT, id_eq] <;> rfl) ?_
      replace K := K f_14 r_15 q_16
      exact JW.ireturn dX3_sure_46 rfl rfl ⟨_, rfl, K⟩
    · have K := K.2 c_4
      refine JW.bipush dX3_sure_32 rfl ?_
      exact JW.ireturn dX3_sure_34 rfl rfl ⟨_, rfl, K⟩
def QX3_sure (s : MS) (a1 : Int) (a2 : Int) (a3 : Int) : Option AV → MS → Prop := fun v s' => ∃ (f11 : Int → Int) (f12 : Int → Int) (f13 : Int → Int) (f14 : Int → Int) (f15 : Int → Int) (f16 : Int → Int) (f17 : Int → Int) (f18 : Int → Int) (f19 : Int → Int) (k25 : Int) (k33 : Int) (k34 : Int), v = some (vI (rSure ((s.2 5) 0) (s.2 6) (s.2 7) (s.2 9) a1 a2 a3)) ∧ s' = sS (sS (sS (sS (sA (sA (sA (sA (sA (sA (sA (sA (sA s 11 f11) 12 f12) 13 f13) 14 f14) 15 f15) 16 f16) 17 f17) 18 f18) 19 f19) 0 (0)) 25 k25) 33 k33) 34 k34
theorem vX3_sure_1 (s : MS) (a1 : Int) (a2 : Int) (a3 : Int) (hp : tOK (s.2 6) ∧ aOK (s.2 6) (s.2 7) ∧ lOK ((s.2 5) 0) (s.2 6)) (c_2 : (bI (0 < (s.2 5) 0 ∧ (0 ≤ a1 ∧ a1 ≤ 3) ∧ 0 ≤ a2 ∧ a2 ≤ 200)) = 0) : (-2) = (rSure ((s.2 5) 0) (s.2 6) (s.2 7) (s.2 9) a1 a2 a3) := by
  obtain ⟨ht, ha, hl⟩ := hp
  have hN := tOK_N ht
  have hL := tOK_L ht
  (try simp only [bI_0, bI_n, Classical.not_not] at *)
  (try have hN2 : 0 < s.2 6 2 := lOK_N ht hl (by omega))
  (try have hq := ‹NXO _ _ _ ∧ BS _ _ _›)
  (try have hq := And.intro hI.2.1 hI.2.2.1)
  (try unfold lex3)
  (try simp only [bI_0, bI_n, Classical.not_not] at *)
  (try simp (disch := omega) only [i32_id] at *)
  first | done | omega | ((repeat' (with_reducible apply And.intro)) <;> first | assumption | rfl | omega | (unfold rSure; rw [if_neg (by omega)]) | (exact BS_01 hq.2) | (unfold rSure; rw [if_pos (by omega)]; exact sureF_eq (sureR_c (BS_cr hq.2) (by assumption))) | grind [upI])
theorem vX3_sure_2 (s : MS) (a1 : Int) (a2 : Int) (a3 : Int) (hp : tOK (s.2 6) ∧ aOK (s.2 6) (s.2 7) ∧ lOK ((s.2 5) 0) (s.2 6)) (c_2 : ¬ (bI (0 < (s.2 5) 0 ∧ (0 ≤ a1 ∧ a1 ≤ 3) ∧ 0 ≤ a2 ∧ a2 ≤ 200)) = 0) (c_4 : ¬ (bI ((0 : Int) ≤ a3 ∧ a3 ≤ (i32 ((s.2 6 1) - 1)))) = 0) : (tOK (s.2 6) ∧ aOK (s.2 6) (s.2 7) ∧ (0 ≤ a1 ∧ a1 ≤ 3) ∧ 0 ≤ a2 ∧ a2 ≤ 200) := by
  obtain ⟨ht, ha, hl⟩ := hp
  have hN := tOK_N ht
  have hL := tOK_L ht
  (try simp only [bI_0, bI_n, Classical.not_not] at *)
  (try have hN2 : 0 < s.2 6 2 := lOK_N ht hl (by omega))
  (try have hq := ‹NXO _ _ _ ∧ BS _ _ _›)
  (try have hq := And.intro hI.2.1 hI.2.2.1)
  (try unfold lex3)
  (try simp only [bI_0, bI_n, Classical.not_not] at *)
  (try simp (disch := omega) only [i32_id] at *)
  first | done | omega | ((repeat' (with_reducible apply And.intro)) <;> first | assumption | rfl | omega | (unfold rSure; rw [if_neg (by omega)]) | (exact BS_01 hq.2) | (unfold rSure; rw [if_pos (by omega)]; exact sureF_eq (sureR_c (BS_cr hq.2) (by assumption))) | grind [upI])
theorem vX3_sure_3 (s : MS) (a1 : Int) (a2 : Int) (a3 : Int) (hp : tOK (s.2 6) ∧ aOK (s.2 6) (s.2 7) ∧ lOK ((s.2 5) 0) (s.2 6)) (c_2 : ¬ (bI (0 < (s.2 5) 0 ∧ (0 ≤ a1 ∧ a1 ≤ 3) ∧ 0 ≤ a2 ∧ a2 ≤ 200)) = 0) (c_4 : ¬ (bI ((0 : Int) ≤ a3 ∧ a3 ≤ (i32 ((s.2 6 1) - 1)))) = 0) (o_5 : (tOK (s.2 6) ∧ aOK (s.2 6) (s.2 7) ∧ (0 ≤ a1 ∧ a1 ≤ 3) ∧ 0 ≤ a2 ∧ a2 ≤ 200)) (f_6 : Int → Int) (f_7 : Int → Int) (f_8 : Int → Int) (f_9 : Int → Int) (f_10 : Int → Int) (k_11 : Int) (q_12 : (NXO (s.2 6) (s.2 7) f_8 ∧ BS f_9 ((s.2 6) 2) (crS (s.2 6) (s.2 7) (s.2 9) a1 (a2).toNat))) : (tOK (s.2 6) ∧ (0 ≤ a3 ∧ a3 < (s.2 6) 1) ∧ ∀ z : Int, 0 ≤ z → z < (s.2 6) 2 → f_9 z = 0 ∨ f_9 z = 1) := by
  obtain ⟨ht, ha, hl⟩ := hp
  have hN := tOK_N ht
  have hL := tOK_L ht
  (try simp only [bI_0, bI_n, Classical.not_not] at *)
  (try have hN2 : 0 < s.2 6 2 := lOK_N ht hl (by omega))
  (try have hq := ‹NXO _ _ _ ∧ BS _ _ _›)
  (try have hq := And.intro hI.2.1 hI.2.2.1)
  (try unfold lex3)
  (try simp only [bI_0, bI_n, Classical.not_not] at *)
  (try simp (disch := omega) only [i32_id] at *)
  first | done | omega | ((repeat' (with_reducible apply And.intro)) <;> first | assumption | rfl | omega | (unfold rSure; rw [if_neg (by omega)]) | (exact BS_01 hq.2) | (unfold rSure; rw [if_pos (by omega)]; exact sureF_eq (sureR_c (BS_cr hq.2) (by assumption))) | grind [upI])
theorem vX3_sure_4 (s : MS) (a1 : Int) (a2 : Int) (a3 : Int) (hp : tOK (s.2 6) ∧ aOK (s.2 6) (s.2 7) ∧ lOK ((s.2 5) 0) (s.2 6)) (c_2 : ¬ (bI (0 < (s.2 5) 0 ∧ (0 ≤ a1 ∧ a1 ≤ 3) ∧ 0 ≤ a2 ∧ a2 ≤ 200)) = 0) (c_4 : ¬ (bI ((0 : Int) ≤ a3 ∧ a3 ≤ (i32 ((s.2 6 1) - 1)))) = 0) (o_5 : (tOK (s.2 6) ∧ aOK (s.2 6) (s.2 7) ∧ (0 ≤ a1 ∧ a1 ≤ 3) ∧ 0 ≤ a2 ∧ a2 ≤ 200)) (f_6 : Int → Int) (f_7 : Int → Int) (f_8 : Int → Int) (f_9 : Int → Int) (f_10 : Int → Int) (k_11 : Int) (q_12 : (NXO (s.2 6) (s.2 7) f_8 ∧ BS f_9 ((s.2 6) 2) (crS (s.2 6) (s.2 7) (s.2 9) a1 (a2).toNat))) (o_13 : (tOK (s.2 6) ∧ (0 ≤ a3 ∧ a3 < (s.2 6) 1) ∧ ∀ z : Int, 0 ≤ z → z < (s.2 6) 2 → f_9 z = 0 ∨ f_9 z = 1)) (f_14 : Int → Int) (r_15 : Int) (q_16 : (sureR (ofB f_9 ((s.2 6) 2)) (fun z => dig ((s.2 6) 0) ((s.2 6) 1) z a3) r_15)) : r_15 = (rSure ((s.2 5) 0) (s.2 6) (s.2 7) (s.2 9) a1 a2 a3) := by
  obtain ⟨ht, ha, hl⟩ := hp
  have hN := tOK_N ht
  have hL := tOK_L ht
  (try simp only [bI_0, bI_n, Classical.not_not] at *)
  (try have hN2 : 0 < s.2 6 2 := lOK_N ht hl (by omega))
  (try have hq := ‹NXO _ _ _ ∧ BS _ _ _›)
  (try have hq := And.intro hI.2.1 hI.2.2.1)
  (try unfold lex3)
  (try simp only [bI_0, bI_n, Classical.not_not] at *)
  (try simp (disch := omega) only [i32_id] at *)
  first | done | omega | ((repeat' (with_reducible apply And.intro)) <;> first | assumption | rfl | omega | (unfold rSure; rw [if_neg (by omega)]) | (exact BS_01 hq.2) | (unfold rSure; rw [if_pos (by omega)]; exact sureF_eq (sureR_c (BS_cr hq.2) (by assumption))) | grind [upI])
theorem vX3_sure_5 (s : MS) (a1 : Int) (a2 : Int) (a3 : Int) (hp : tOK (s.2 6) ∧ aOK (s.2 6) (s.2 7) ∧ lOK ((s.2 5) 0) (s.2 6)) (c_2 : ¬ (bI (0 < (s.2 5) 0 ∧ (0 ≤ a1 ∧ a1 ≤ 3) ∧ 0 ≤ a2 ∧ a2 ≤ 200)) = 0) (c_4 : (bI ((0 : Int) ≤ a3 ∧ a3 ≤ (i32 ((s.2 6 1) - 1)))) = 0) : (-2) = (rSure ((s.2 5) 0) (s.2 6) (s.2 7) (s.2 9) a1 a2 a3) := by
  obtain ⟨ht, ha, hl⟩ := hp
  have hN := tOK_N ht
  have hL := tOK_L ht
  (try simp only [bI_0, bI_n, Classical.not_not] at *)
  (try have hN2 : 0 < s.2 6 2 := lOK_N ht hl (by omega))
  (try have hq := ‹NXO _ _ _ ∧ BS _ _ _›)
  (try have hq := And.intro hI.2.1 hI.2.2.1)
  (try unfold lex3)
  (try simp only [bI_0, bI_n, Classical.not_not] at *)
  (try simp (disch := omega) only [i32_id] at *)
  first | done | omega | ((repeat' (with_reducible apply And.intro)) <;> first | assumption | rfl | omega | (unfold rSure; rw [if_neg (by omega)]) | (exact BS_01 hq.2) | (unfold rSure; rw [if_pos (by omega)]; exact sureF_eq (sureR_c (BS_cr hq.2) (by assumption))) | grind [upI])
theorem ctX3_sure (b : AH) (s : MS) (a1 : Int) (a2 : Int) (a3 : Int) (hp : tOK (s.2 6) ∧ aOK (s.2 6) (s.2 7) ∧ lOK ((s.2 5) 0) (s.2 6)) : MC mX3_sure 9 b s [vI a1, vI a2, vI a3] (QX3_sure s a1 a2 a3) := by
  refine MC.of (by decide) rfl (Nat.le_of_ble_eq_true rfl) (JW.steq (s2 := sS (sS (sS (sS (sA (sA (sA (sA (sA (sA (sA (sA (sA s 11 (s.2 11)) 12 (s.2 12)) 13 (s.2 13)) 14 (s.2 14)) 15 (s.2 15)) 16 (s.2 16)) 17 (s.2 17)) 18 (s.2 18)) 19 (s.2 19)) 0 (s.1 0)) 25 (s.1 25)) 33 (s.1 33)) 34 (s.1 34)) (by simp only [sA_id, sS_id]) ?_)
  refine bX3_sure_0 b s a1 a2 a3 (s.2 11) (s.2 12) (s.2 13) (s.2 14) (s.2 15) (s.2 16) (s.2 17) (s.2 18) (s.2 19) (s.1 0) (s.1 25) (s.1 33) (s.1 34) ?_
  refine ⟨fun c_2 => ?_, fun c_2 => ?_⟩
  · exact ⟨(s.2 11), (s.2 12), (s.2 13), (s.2 14), (s.2 15), (s.2 16), (s.2 17), (s.2 18), (s.2 19), (s.1 25), (s.1 33), (s.1 34), (rI_c (vX3_sure_1 s a1 a2 a3 hp c_2)), rfl⟩
  · refine ⟨fun c_4 => ?_, fun c_4 => ?_⟩
    · have o_5 : (tOK (s.2 6) ∧ aOK (s.2 6) (s.2 7) ∧ (0 ≤ a1 ∧ a1 ≤ 3) ∧ 0 ≤ a2 ∧ a2 ≤ 200) := (vX3_sure_2 s a1 a2 a3 hp c_2 c_4)
      refine ⟨o_5, ?_⟩
      intro f_6 f_7 f_8 f_9 f_10 k_11 q_12
      have o_13 : (tOK (s.2 6) ∧ (0 ≤ a3 ∧ a3 < (s.2 6) 1) ∧ ∀ z : Int, 0 ≤ z → z < (s.2 6) 2 → f_9 z = 0 ∨ f_9 z = 1) := (vX3_sure_3 s a1 a2 a3 hp c_2 c_4 o_5 f_6 f_7 f_8 f_9 f_10 k_11 q_12)
      refine ⟨o_13, ?_⟩
      intro f_14 r_15 q_16
      exact ⟨f_14, f_7, f_8, (s.2 14), (s.2 15), (s.2 16), (s.2 17), f_9, f_10, k_11, (s.1 33), (s.1 34), (rI_c (vX3_sure_4 s a1 a2 a3 hp c_2 c_4 o_5 f_6 f_7 f_8 f_9 f_10 k_11 q_12 o_13 f_14 r_15 q_16)), rfl⟩
    · exact ⟨(s.2 11), (s.2 12), (s.2 13), (s.2 14), (s.2 15), (s.2 16), (s.2 17), (s.2 18), (s.2 19), (s.1 25), (s.1 33), (s.1 34), (rI_c (vX3_sure_5 s a1 a2 a3 hp c_2 c_4)), rfl⟩
def HX3_fewest_0 (Q : Option AV → MS → Prop) (b : AH) (s : MS) (x1 : Int) (x2 : Int) (f11 : Int → Int) (f12 : Int → Int) (f13 : Int → Int) (f14 : Int → Int) (f15 : Int → Int) (f16 : Int → Int) (f17 : Int → Int) (f18 : Int → Int) (f19 : Int → Int) (k0 : Int) (k25 : Int) (k33 : Int) (k34 : Int) : Prop := MW mX3_fewest 9 Q b 0 [(0, vR 351), (1, vI x1), (2, vI x2)] [] (sS (sS (sS (sS (sA (sA (sA (sA (sA (sA (sA (sA (sA s 11 f11) 12 f12) 13 f13) 14 f14) 15 f15) 16 f16) 17 f17) 18 f18) 19 f19) 0 k0) 25 k25) 33 k33) 34 k34)
def HX3_fewest_43 (Q : Option AV → MS → Prop) (b : AH) (s : MS) (x2 : Int) (x3 : Int) (f11 : Int → Int) (f12 : Int → Int) (f13 : Int → Int) (f14 : Int → Int) (f15 : Int → Int) (f16 : Int → Int) (f17 : Int → Int) (f18 : Int → Int) (f19 : Int → Int) (k0 : Int) (k25 : Int) (k33 : Int) (k34 : Int) : Prop := MW mX3_fewest 9 Q b 43 [(0, vR 351), (2, vI x2), (3, vI x3)] [] (sS (sS (sS (sS (sA (sA (sA (sA (sA (sA (sA (sA (sA s 11 f11) 12 f12) 13 f13) 14 f14) 15 f15) 16 f16) 17 f17) 18 f18) 19 f19) 0 k0) 25 k25) 33 k33) 34 k34)
theorem bX3_fewest_0 {Q : Option AV → MS → Prop} (b : AH) (s : MS) (x1 : Int) (x2 : Int) (f11 : Int → Int) (f12 : Int → Int) (f13 : Int → Int) (f14 : Int → Int) (f15 : Int → Int) (f16 : Int → Int) (f17 : Int → Int) (f18 : Int → Int) (f19 : Int → Int) (k0 : Int) (k25 : Int) (k33 : Int) (k34 : Int) (K : ((bI (0 < (s.2 5) 0 ∧ (0 ≤ x1 ∧ x1 ≤ 3) ∧ 0 ≤ (0 : Int) ∧ (0 : Int) ≤ 200)) = 0 → Q (some (vI (-2))) (sS (sS (sS (sS (sA (sA (sA (sA (sA (sA (sA (sA (sA s 11 f11) 12 f12) 13 f13) 14 f14) 15 f15) 16 f16) 17 f17) 18 f18) 19 f19) 0 0) 25 k25) 33 k33) 34 k34)) ∧ (¬ (bI (0 < (s.2 5) 0 ∧ (0 ≤ x1 ∧ x1 ≤ 3) ∧ 0 ≤ (0 : Int) ∧ (0 : Int) ≤ 200)) = 0 → (¬ (bI ((0 : Int) ≤ x2 ∧ x2 ≤ (i32 ((s.2 6 1) - 1)))) = 0 → (tOK (s.2 6) ∧ aOK (s.2 6) (s.2 7) ∧ (0 ≤ x1 ∧ x1 ≤ 3) ∧ 0 ≤ (0 : Int) ∧ (0 : Int) ≤ 200) ∧ ((∀ (f_6 : Int → Int) (f_7 : Int → Int) (f_8 : Int → Int) (f_9 : Int → Int) (f_10 : Int → Int) (k_11 : Int), (NXO (s.2 6) (s.2 7) f_8 ∧ BS f_9 ((s.2 6) 2) (crS (s.2 6) (s.2 7) (s.2 9) x1 ((0 : Int)).toNat)) → HX3_fewest_43 Q b s x2 0 f_6 f_7 f_8 f14 f15 f16 f17 f_9 f_10 0 k_11 k33 k34))) ∧ ((bI ((0 : Int) ≤ x2 ∧ x2 ≤ (i32 ((s.2 6 1) - 1)))) = 0 → Q (some (vI (-2))) (sS (sS (sS (sS (sA (sA (sA (sA (sA (sA (sA (sA (sA s 11 f11) 12 f12) 13 f13) 14 f14) 15 f15) 16 f16) 17 f17) 18 f18) 19 f19) 0 0) 25 k25) 33 k33) 34 k34)))) : HX3_fewest_0 Q b s x1 x2 f11 f12 f13 f14 f15 f16 f17 f18 f19 k0 k25 k33 k34 := by
  refine JW.aload_n dX3_fewest_0 rfl ?_
  refine JW.iconst dX3_fewest_1 rfl ?_
  refine JW.mputI dX3_fewest_2 (pX3_77 _) rfl ?_
  refine JW.steq (s2 := sS (sS (sS (sS (sA (sA (sA (sA (sA (sA (sA (sA (sA s 11 f11) 12 f12) 13 f13) 14 f14) 15 f15) 16 f16) 17 f17) 18 f18) 19 f19) 0 0) 25 k25) 33 k33) 34 k34) (by simp only [sA_A, sS_S, sA_S, sA_lt, sS_lt, Nat.reduceLT, id_eq] <;> rfl) ?_
  refine JW.aload_n dX3_fewest_5 rfl ?_
  refine JW.iload_n dX3_fewest_6 rfl ?_
  refine JW.iconst dX3_fewest_7 rfl ?_
  refine JW.mcall (As := [vI x1, vI 0]) dX3_fewest_8 vX3_isCrowd rfl q1985 (ctX3_isCrowd b (sS (sS (sS (sS (sA (sA (sA (sA (sA (sA (sA (sA (sA s 11 f11) 12 f12) 13 f13) 14 f14) 15 f15) 16 f16) 17 f17) 18 f18) 19 f19) 0 0) 25 k25) 33 k33) 34 k34) x1 0) (Nat.le_of_ble_eq_true rfl) rfl (Nat.le_of_ble_eq_true rfl) ?_
  rintro _ _ ⟨rfl, eq_1⟩
  refine JW.steq (s2 := sS (sS (sS (sS (sA (sA (sA (sA (sA (sA (sA (sA (sA s 11 f11) 12 f12) 13 f13) 14 f14) 15 f15) 16 f16) 17 f17) 18 f18) 19 f19) 0 0) 25 k25) 33 k33) 34 k34) eq_1 ?_
  refine JW.if_eq (tgt := 32) dX3_fewest_11 rfl (fun c_2 => ?_) (fun c_2 => ?_)
  · have K := K.1 c_2
    refine JW.bipush dX3_fewest_32 rfl ?_
    exact JW.ireturn dX3_fewest_34 rfl rfl ⟨_, rfl, K⟩
  · have K := K.2 c_2
    refine JW.iload_n dX3_fewest_14 rfl ?_
    refine JW.i2l dX3_fewest_15 ?_
    refine JW.lconst (x := 0) dX3_fewest_16 rfl ?_
    refine JW.aload_n dX3_fewest_17 rfl ?_
    refine JW.mget (v := vR 358) dX3_fewest_18 fX3_34 rfl ?_
    refine JW.iconst dX3_fewest_21 rfl ?_
    refine JW.mald 6 (x := (s.2 6 1)) dX3_fewest_22 (Nat.le_of_ble_eq_true rfl) rfl (by decide) (by decide) rfl ?_
    refine JW.iconst dX3_fewest_23 rfl ?_
    refine JW.isub dX3_fewest_24 ?_
    refine JW.i2l dX3_fewest_25 ?_
    refine JW.mcallS (As := [vL x2, vL 0, vL (i32 ((s.2 6 1) - 1))]) dX3_fewest_26 vX3_in q1632 (ctX3_in b (sS (sS (sS (sS (sA (sA (sA (sA (sA (sA (sA (sA (sA s 11 f11) 12 f12) 13 f13) 14 f14) 15 f15) 16 f16) 17 f17) 18 f18) 19 f19) 0 0) 25 k25) 33 k33) 34 k34) x2 0 (i32 ((s.2 6 1) - 1))) (Nat.le_of_ble_eq_true rfl) rfl (Nat.le_of_ble_eq_true rfl) ?_
    rintro _ _ ⟨rfl, eq_3⟩
    refine JW.steq (s2 := sS (sS (sS (sS (sA (sA (sA (sA (sA (sA (sA (sA (sA s 11 f11) 12 f12) 13 f13) 14 f14) 15 f15) 16 f16) 17 f17) 18 f18) 19 f19) 0 0) 25 k25) 33 k33) 34 k34) eq_3 ?_
    refine JW.if_ne (tgt := 35) dX3_fewest_29 rfl (fun c_4 => ?_) (fun c_4 => ?_)
    · have K := K.1 c_4
      refine JW.aload_n dX3_fewest_35 rfl ?_
      refine JW.iload_n dX3_fewest_36 rfl ?_
      refine JW.iconst dX3_fewest_37 rfl ?_
      obtain ⟨o_5, K⟩ := K
      refine JW.mcall (As := [vI x1, vI 0]) dX3_fewest_38 vX3_crowdsBehind rfl q1989 (ctX3_crowdsBehind b (sS (sS (sS (sS (sA (sA (sA (sA (sA (sA (sA (sA (sA s 11 f11) 12 f12) 13 f13) 14 f14) 15 f15) 16 f16) 17 f17) 18 f18) 19 f19) 0 0) 25 k25) 33 k33) 34 k34) x1 0 o_5) (Nat.le_of_ble_eq_true rfl) rfl (Nat.le_of_ble_eq_true rfl) ?_
      rintro _ _ ⟨f_6, f_7, f_8, f_9, f_10, k_11, rfl, rfl, q_12⟩
      refine JW.steq (s2 := sS (sS (sS (sS (sA (sA (sA (sA (sA (sA (sA (sA (sA s 11 f_6) 12 f_7) 13 f_8) 14 f14) 15 f15) 16 f16) 17 f17) 18 f_9) 19 f_10) 0 0) 25 k_11) 33 k33) 34 k34) (by simp only [sA_A, sS_S, sA_S, sA_lt, sS_lt, Nat.reduceLT, id_eq] <;> rfl) ?_
      replace K := K f_6 f_7 f_8 f_9 f_10 k_11 q_12
      refine JW.iconst dX3_fewest_41 rfl ?_
      refine JW.istore_n (ls' := [(0, vR 351), (1, vI x1), (2, vI x2), (3, vI 0)]) dX3_fewest_42 (Nat.le_of_ble_eq_true rfl) rfl ?_
      exact JW.pick [0, 2, 3] rfl K
    · have K := K.2 c_4
      refine JW.bipush dX3_fewest_32 rfl ?_
      exact JW.ireturn dX3_fewest_34 rfl rfl ⟨_, rfl, K⟩
theorem bX3_fewest_43 {Q : Option AV → MS → Prop} (b : AH) (s : MS) (x2 : Int) (x3 : Int) (f11 : Int → Int) (f12 : Int → Int) (f13 : Int → Int) (f14 : Int → Int) (f15 : Int → Int) (f16 : Int → Int) (f17 : Int → Int) (f18 : Int → Int) (f19 : Int → Int) (k0 : Int) (k25 : Int) (k33 : Int) (k34 : Int) (K : (200 < x3 → Q (some (vI (-1))) (sS (sS (sS (sS (sA (sA (sA (sA (sA (sA (sA (sA (sA s 11 f11) 12 f12) 13 f13) 14 f14) 15 f15) 16 f16) 17 f17) 18 f18) 19 f19) 0 k0) 25 k25) 33 k33) 34 k34)) ∧ (¬ 200 < x3 → (tOK (s.2 6) ∧ (0 ≤ x2 ∧ x2 < (s.2 6) 1) ∧ ∀ z : Int, 0 ≤ z → z < (s.2 6) 2 → f18 z = 0 ∨ f18 z = 1) ∧ ((∀ (f_3 : Int → Int) (r_4 : Int), (sureR (ofB f18 ((s.2 6) 2)) (fun z => dig ((s.2 6) 0) ((s.2 6) 1) z x2) r_4) → (r_4 = (-1) → (tOK (s.2 6) ∧ rng f13 ((s.2 6) 2) ∧ ∀ z : Int, 0 ≤ z → z < (s.2 6) 2 → f18 z = 0 ∨ f18 z = 1) ∧ ((∀ (f_8 : Int → Int) (f_9 : Int → Int), (BS f_8 ((s.2 6) 2) (stepS f13 ((s.2 6) 2) (fun y => f18 y = 1))) → HX3_fewest_43 Q b s x2 (i32 (x3 + 1)) f_3 f12 f13 f14 f15 f16 f17 f_8 f_9 k0 k25 k33 k34))) ∧ (¬ r_4 = (-1) → Q (some (vI x3)) (sS (sS (sS (sS (sA (sA (sA (sA (sA (sA (sA (sA (sA s 11 f_3) 12 f12) 13 f13) 14 f14) 15 f15) 16 f16) 17 f17) 18 f18) 19 f19) 0 k0) 25 k25) 33 k33) 34 k34)))))) : HX3_fewest_43 Q b s x2 x3 f11 f12 f13 f14 f15 f16 f17 f18 f19 k0 k25 k33 k34 := by
  refine JW.iload_n dX3_fewest_43 rfl ?_
  refine JW.sipush dX3_fewest_44 rfl ?_
  refine JW.icmp_gt (tgt := 71) dX3_fewest_47 rfl (fun c_1 => ?_) (fun c_1 => ?_)
  · have K := K.1 c_1
    refine JW.iconst dX3_fewest_71 rfl ?_
    exact JW.ireturn dX3_fewest_72 rfl rfl ⟨_, rfl, K⟩
  · have K := K.2 c_1
    refine JW.aload_n dX3_fewest_50 rfl ?_
    refine JW.iload_n dX3_fewest_51 rfl ?_
    obtain ⟨o_2, K⟩ := K
    refine JW.mcall (As := [vI x2]) dX3_fewest_52 vX3_sureAt rfl q2009 (ctX3_sureAt b (sS (sS (sS (sS (sA (sA (sA (sA (sA (sA (sA (sA (sA s 11 f11) 12 f12) 13 f13) 14 f14) 15 f15) 16 f16) 17 f17) 18 f18) 19 f19) 0 k0) 25 k25) 33 k33) 34 k34) x2 o_2) (Nat.le_of_ble_eq_true rfl) rfl (Nat.le_of_ble_eq_true rfl) ?_
    rintro _ _ ⟨f_3, r_4, rfl, rfl, q_5⟩
    refine JW.steq (s2 := sS (sS (sS (sS (sA (sA (sA (sA (sA (sA (sA (sA (sA s 11 f_3) 12 f12) 13 f13) 14 f14) 15 f15) 16 f16) 17 f17) 18 f18) 19 f19) 0 k0) 25 k25) 33 k33) 34 k34) (by simp only [sA_A, sS_S, sA_S, sA_lt, sS_lt, Nat.reduceLT, id_eq] <;> rfl) ?_
    replace K := K f_3 r_4 q_5
    refine JW.iconst dX3_fewest_55 rfl ?_
    refine JW.icmp_eq (tgt := 61) dX3_fewest_56 rfl (fun c_6 => ?_) (fun c_6 => ?_)
    · have K := K.1 c_6
      refine JW.aload_n dX3_fewest_61 rfl ?_
      obtain ⟨o_7, K⟩ := K
      refine JW.mcall (As := []) dX3_fewest_62 vX3_goes rfl q2005 (ctX3_goes b (sS (sS (sS (sS (sA (sA (sA (sA (sA (sA (sA (sA (sA s 11 f_3) 12 f12) 13 f13) 14 f14) 15 f15) 16 f16) 17 f17) 18 f18) 19 f19) 0 k0) 25 k25) 33 k33) 34 k34) o_7) (Nat.le_of_ble_eq_true rfl) rfl (Nat.le_of_ble_eq_true rfl) ?_
      rintro _ _ ⟨f_8, f_9, rfl, rfl, q_10⟩
      refine JW.steq (s2 := sS (sS (sS (sS (sA (sA (sA (sA (sA (sA (sA (sA (sA s 11 f_3) 12 f12) 13 f13) 14 f14) 15 f15) 16 f16) 17 f17) 18 f_8) 19 f_9) 0 k0) 25 k25) 33 k33) 34 k34) (by simp only [sA_A, sS_S, sA_S, sA_lt, sS_lt, Nat.reduceLT, id_eq] <;> rfl) ?_
      replace K := K f_8 f_9 q_10
      refine JW.iinc (ls' := [(0, vR 351), (2, vI x2), (3, vI (i32 (x3 + 1)))]) dX3_fewest_65 (Nat.le_of_ble_eq_true rfl) rfl rfl ?_
      refine JW.goto (tgt := 43) dX3_fewest_68 rfl ?_
      exact JW.pick [0, 2, 3] rfl K
    · have K := K.2 c_6
      refine JW.iload_n dX3_fewest_59 rfl ?_
      exact JW.ireturn dX3_fewest_60 rfl rfl ⟨_, rfl, K⟩
def QX3_fewest (s : MS) (a1 : Int) (a2 : Int) : Option AV → MS → Prop := fun v s' => ∃ (f11 : Int → Int) (f12 : Int → Int) (f13 : Int → Int) (f14 : Int → Int) (f15 : Int → Int) (f16 : Int → Int) (f17 : Int → Int) (f18 : Int → Int) (f19 : Int → Int) (k25 : Int) (k33 : Int) (k34 : Int), v = some (vI (rFewest ((s.2 5) 0) (s.2 6) (s.2 7) (s.2 9) a1 a2)) ∧ s' = sS (sS (sS (sS (sA (sA (sA (sA (sA (sA (sA (sA (sA s 11 f11) 12 f12) 13 f13) 14 f14) 15 f15) 16 f16) 17 f17) 18 f18) 19 f19) 0 (0)) 25 k25) 33 k33) 34 k34
theorem vX3_fewest_1 (s : MS) (a1 : Int) (a2 : Int) (hp : tOK (s.2 6) ∧ aOK (s.2 6) (s.2 7) ∧ lOK ((s.2 5) 0) (s.2 6)) (x2 : Int) (x3 : Int) (f11 : Int → Int) (f12 : Int → Int) (f13 : Int → Int) (f14 : Int → Int) (f15 : Int → Int) (f16 : Int → Int) (f17 : Int → Int) (f18 : Int → Int) (f19 : Int → Int) (k0 : Int) (k25 : Int) (k33 : Int) (k34 : Int) (hI : k0 = 0 ∧ NXO (s.2 6) (s.2 7) f13 ∧ BS f18 (s.2 6 2) (crS (s.2 6) (s.2 7) (s.2 9) a1 x3.toNat) ∧ (x2 = a2 ∧ 0 < s.2 5 0 ∧ 0 ≤ a1 ∧ a1 ≤ 3 ∧ 0 ≤ a2 ∧ a2 < s.2 6 1) ∧ (0 ≤ x3 ∧ x3 ≤ 201) ∧ ∀ j : Int, 0 ≤ j → j < x3 → sureF (crS (s.2 6) (s.2 7) (s.2 9) a1 j.toNat) (fun z => dig (s.2 6 0) (s.2 6 1) z a2) = -1) (c_1 : 200 < x3) : k0 = (0) := by
  obtain ⟨ht, ha, hl⟩ := hp
  have hN := tOK_N ht
  have hL := tOK_L ht
  (try simp only [bI_0, bI_n, Classical.not_not] at *)
  (try have hN2 : 0 < s.2 6 2 := lOK_N ht hl (by omega))
  (try have hq := ‹NXO _ _ _ ∧ BS _ _ _›)
  (try have hq := And.intro hI.2.1 hI.2.2.1)
  (try (have e2 := hI.2.2.2.1.1; subst e2))
  (try have hs := sureF_eq (sureR_c (BS_cr hq.2) (by assumption)))
  (try unfold lex3)
  (try simp only [bI_0, bI_n, Classical.not_not] at *)
  (try simp (disch := omega) only [i32_id] at *)
  first | done | omega | ((repeat' (with_reducible apply And.intro)) <;> first | assumption | rfl | omega | (exact hI.1) | (exact hq.1) | (exact hq.2) | (unfold rFewest; rw [if_neg (by omega)]) | (exact BS_01 hq.2) | (exact NXO_rng hq.1) | (intro j h0 h1; omega) | (unfold rFewest; rw [if_pos (by omega)]; exact nth_eq (isNth_nofirst (fun z a b c => c (hI.2.2.2.2.2 z a (by omega))))) | (unfold rFewest; rw [if_pos (by omega)]; exact nth_eq (isNth_first (by omega) (by omega) (by show sureF _ _ ≠ -1; rw [← hs]; assumption) (fun z a b c => c (hI.2.2.2.2.2 z a b)))) | (rw [show (x3 + 1).toNat = x3.toNat + 1 by omega]; exact BS_step hq.1 hq.2 (by assumption)) | (intro j h0 h1; by_cases e : j = x3; (focus (rw [e, ← hs]; assumption)); (focus (exact hI.2.2.2.2.2 j h0 (by omega)))) | grind [upI])
theorem vX3_fewest_2 (s : MS) (a1 : Int) (a2 : Int) (hp : tOK (s.2 6) ∧ aOK (s.2 6) (s.2 7) ∧ lOK ((s.2 5) 0) (s.2 6)) (x2 : Int) (x3 : Int) (f11 : Int → Int) (f12 : Int → Int) (f13 : Int → Int) (f14 : Int → Int) (f15 : Int → Int) (f16 : Int → Int) (f17 : Int → Int) (f18 : Int → Int) (f19 : Int → Int) (k0 : Int) (k25 : Int) (k33 : Int) (k34 : Int) (hI : k0 = 0 ∧ NXO (s.2 6) (s.2 7) f13 ∧ BS f18 (s.2 6 2) (crS (s.2 6) (s.2 7) (s.2 9) a1 x3.toNat) ∧ (x2 = a2 ∧ 0 < s.2 5 0 ∧ 0 ≤ a1 ∧ a1 ≤ 3 ∧ 0 ≤ a2 ∧ a2 < s.2 6 1) ∧ (0 ≤ x3 ∧ x3 ≤ 201) ∧ ∀ j : Int, 0 ≤ j → j < x3 → sureF (crS (s.2 6) (s.2 7) (s.2 9) a1 j.toNat) (fun z => dig (s.2 6 0) (s.2 6 1) z a2) = -1) (c_1 : 200 < x3) : (-1) = (rFewest ((s.2 5) 0) (s.2 6) (s.2 7) (s.2 9) a1 a2) := by
  obtain ⟨ht, ha, hl⟩ := hp
  have hN := tOK_N ht
  have hL := tOK_L ht
  (try simp only [bI_0, bI_n, Classical.not_not] at *)
  (try have hN2 : 0 < s.2 6 2 := lOK_N ht hl (by omega))
  (try have hq := ‹NXO _ _ _ ∧ BS _ _ _›)
  (try have hq := And.intro hI.2.1 hI.2.2.1)
  (try (have e2 := hI.2.2.2.1.1; subst e2))
  (try have hs := sureF_eq (sureR_c (BS_cr hq.2) (by assumption)))
  (try unfold lex3)
  (try simp only [bI_0, bI_n, Classical.not_not] at *)
  (try simp (disch := omega) only [i32_id] at *)
  first | done | omega | ((repeat' (with_reducible apply And.intro)) <;> first | assumption | rfl | omega | (exact hI.1) | (exact hq.1) | (exact hq.2) | (unfold rFewest; rw [if_neg (by omega)]) | (exact BS_01 hq.2) | (exact NXO_rng hq.1) | (intro j h0 h1; omega) | (unfold rFewest; rw [if_pos (by omega)]; exact nth_eq (isNth_nofirst (fun z a b c => c (hI.2.2.2.2.2 z a (by omega))))) | (unfold rFewest; rw [if_pos (by omega)]; exact nth_eq (isNth_first (by omega) (by omega) (by show sureF _ _ ≠ -1; rw [← hs]; assumption) (fun z a b c => c (hI.2.2.2.2.2 z a b)))) | (rw [show (x3 + 1).toNat = x3.toNat + 1 by omega]; exact BS_step hq.1 hq.2 (by assumption)) | (intro j h0 h1; by_cases e : j = x3; (focus (rw [e, ← hs]; assumption)); (focus (exact hI.2.2.2.2.2 j h0 (by omega)))) | grind [upI])
theorem vX3_fewest_3 (s : MS) (a1 : Int) (a2 : Int) (hp : tOK (s.2 6) ∧ aOK (s.2 6) (s.2 7) ∧ lOK ((s.2 5) 0) (s.2 6)) (x2 : Int) (x3 : Int) (f11 : Int → Int) (f12 : Int → Int) (f13 : Int → Int) (f14 : Int → Int) (f15 : Int → Int) (f16 : Int → Int) (f17 : Int → Int) (f18 : Int → Int) (f19 : Int → Int) (k0 : Int) (k25 : Int) (k33 : Int) (k34 : Int) (hI : k0 = 0 ∧ NXO (s.2 6) (s.2 7) f13 ∧ BS f18 (s.2 6 2) (crS (s.2 6) (s.2 7) (s.2 9) a1 x3.toNat) ∧ (x2 = a2 ∧ 0 < s.2 5 0 ∧ 0 ≤ a1 ∧ a1 ≤ 3 ∧ 0 ≤ a2 ∧ a2 < s.2 6 1) ∧ (0 ≤ x3 ∧ x3 ≤ 201) ∧ ∀ j : Int, 0 ≤ j → j < x3 → sureF (crS (s.2 6) (s.2 7) (s.2 9) a1 j.toNat) (fun z => dig (s.2 6 0) (s.2 6 1) z a2) = -1) (c_1 : ¬ 200 < x3) : (tOK (s.2 6) ∧ (0 ≤ x2 ∧ x2 < (s.2 6) 1) ∧ ∀ z : Int, 0 ≤ z → z < (s.2 6) 2 → f18 z = 0 ∨ f18 z = 1) := by
  obtain ⟨ht, ha, hl⟩ := hp
  have hN := tOK_N ht
  have hL := tOK_L ht
  (try simp only [bI_0, bI_n, Classical.not_not] at *)
  (try have hN2 : 0 < s.2 6 2 := lOK_N ht hl (by omega))
  (try have hq := ‹NXO _ _ _ ∧ BS _ _ _›)
  (try have hq := And.intro hI.2.1 hI.2.2.1)
  (try (have e2 := hI.2.2.2.1.1; subst e2))
  (try have hs := sureF_eq (sureR_c (BS_cr hq.2) (by assumption)))
  (try unfold lex3)
  (try simp only [bI_0, bI_n, Classical.not_not] at *)
  (try simp (disch := omega) only [i32_id] at *)
  first | done | omega | ((repeat' (with_reducible apply And.intro)) <;> first | assumption | rfl | omega | (exact hI.1) | (exact hq.1) | (exact hq.2) | (unfold rFewest; rw [if_neg (by omega)]) | (exact BS_01 hq.2) | (exact NXO_rng hq.1) | (intro j h0 h1; omega) | (unfold rFewest; rw [if_pos (by omega)]; exact nth_eq (isNth_nofirst (fun z a b c => c (hI.2.2.2.2.2 z a (by omega))))) | (unfold rFewest; rw [if_pos (by omega)]; exact nth_eq (isNth_first (by omega) (by omega) (by show sureF _ _ ≠ -1; rw [← hs]; assumption) (fun z a b c => c (hI.2.2.2.2.2 z a b)))) | (rw [show (x3 + 1).toNat = x3.toNat + 1 by omega]; exact BS_step hq.1 hq.2 (by assumption)) | (intro j h0 h1; by_cases e : j = x3; (focus (rw [e, ← hs]; assumption)); (focus (exact hI.2.2.2.2.2 j h0 (by omega)))) | grind [upI])
theorem vX3_fewest_4 (s : MS) (a1 : Int) (a2 : Int) (hp : tOK (s.2 6) ∧ aOK (s.2 6) (s.2 7) ∧ lOK ((s.2 5) 0) (s.2 6)) (x2 : Int) (x3 : Int) (f11 : Int → Int) (f12 : Int → Int) (f13 : Int → Int) (f14 : Int → Int) (f15 : Int → Int) (f16 : Int → Int) (f17 : Int → Int) (f18 : Int → Int) (f19 : Int → Int) (k0 : Int) (k25 : Int) (k33 : Int) (k34 : Int) (hI : k0 = 0 ∧ NXO (s.2 6) (s.2 7) f13 ∧ BS f18 (s.2 6 2) (crS (s.2 6) (s.2 7) (s.2 9) a1 x3.toNat) ∧ (x2 = a2 ∧ 0 < s.2 5 0 ∧ 0 ≤ a1 ∧ a1 ≤ 3 ∧ 0 ≤ a2 ∧ a2 < s.2 6 1) ∧ (0 ≤ x3 ∧ x3 ≤ 201) ∧ ∀ j : Int, 0 ≤ j → j < x3 → sureF (crS (s.2 6) (s.2 7) (s.2 9) a1 j.toNat) (fun z => dig (s.2 6 0) (s.2 6 1) z a2) = -1) (c_1 : ¬ 200 < x3) (o_2 : (tOK (s.2 6) ∧ (0 ≤ x2 ∧ x2 < (s.2 6) 1) ∧ ∀ z : Int, 0 ≤ z → z < (s.2 6) 2 → f18 z = 0 ∨ f18 z = 1)) (f_3 : Int → Int) (r_4 : Int) (q_5 : (sureR (ofB f18 ((s.2 6) 2)) (fun z => dig ((s.2 6) 0) ((s.2 6) 1) z x2) r_4)) (c_6 : r_4 = (-1)) : (tOK (s.2 6) ∧ rng f13 ((s.2 6) 2) ∧ ∀ z : Int, 0 ≤ z → z < (s.2 6) 2 → f18 z = 0 ∨ f18 z = 1) := by
  obtain ⟨ht, ha, hl⟩ := hp
  have hN := tOK_N ht
  have hL := tOK_L ht
  (try simp only [bI_0, bI_n, Classical.not_not] at *)
  (try have hN2 : 0 < s.2 6 2 := lOK_N ht hl (by omega))
  (try have hq := ‹NXO _ _ _ ∧ BS _ _ _›)
  (try have hq := And.intro hI.2.1 hI.2.2.1)
  (try (have e2 := hI.2.2.2.1.1; subst e2))
  (try have hs := sureF_eq (sureR_c (BS_cr hq.2) (by assumption)))
  (try unfold lex3)
  (try simp only [bI_0, bI_n, Classical.not_not] at *)
  (try simp (disch := omega) only [i32_id] at *)
  first | done | omega | ((repeat' (with_reducible apply And.intro)) <;> first | assumption | rfl | omega | (exact hI.1) | (exact hq.1) | (exact hq.2) | (unfold rFewest; rw [if_neg (by omega)]) | (exact BS_01 hq.2) | (exact NXO_rng hq.1) | (intro j h0 h1; omega) | (unfold rFewest; rw [if_pos (by omega)]; exact nth_eq (isNth_nofirst (fun z a b c => c (hI.2.2.2.2.2 z a (by omega))))) | (unfold rFewest; rw [if_pos (by omega)]; exact nth_eq (isNth_first (by omega) (by omega) (by show sureF _ _ ≠ -1; rw [← hs]; assumption) (fun z a b c => c (hI.2.2.2.2.2 z a b)))) | (rw [show (x3 + 1).toNat = x3.toNat + 1 by omega]; exact BS_step hq.1 hq.2 (by assumption)) | (intro j h0 h1; by_cases e : j = x3; (focus (rw [e, ← hs]; assumption)); (focus (exact hI.2.2.2.2.2 j h0 (by omega)))) | grind [upI])
theorem vX3_fewest_5 (s : MS) (a1 : Int) (a2 : Int) (hp : tOK (s.2 6) ∧ aOK (s.2 6) (s.2 7) ∧ lOK ((s.2 5) 0) (s.2 6)) (x2 : Int) (x3 : Int) (f11 : Int → Int) (f12 : Int → Int) (f13 : Int → Int) (f14 : Int → Int) (f15 : Int → Int) (f16 : Int → Int) (f17 : Int → Int) (f18 : Int → Int) (f19 : Int → Int) (k0 : Int) (k25 : Int) (k33 : Int) (k34 : Int) (hI : k0 = 0 ∧ NXO (s.2 6) (s.2 7) f13 ∧ BS f18 (s.2 6 2) (crS (s.2 6) (s.2 7) (s.2 9) a1 x3.toNat) ∧ (x2 = a2 ∧ 0 < s.2 5 0 ∧ 0 ≤ a1 ∧ a1 ≤ 3 ∧ 0 ≤ a2 ∧ a2 < s.2 6 1) ∧ (0 ≤ x3 ∧ x3 ≤ 201) ∧ ∀ j : Int, 0 ≤ j → j < x3 → sureF (crS (s.2 6) (s.2 7) (s.2 9) a1 j.toNat) (fun z => dig (s.2 6 0) (s.2 6 1) z a2) = -1) (c_1 : ¬ 200 < x3) (o_2 : (tOK (s.2 6) ∧ (0 ≤ x2 ∧ x2 < (s.2 6) 1) ∧ ∀ z : Int, 0 ≤ z → z < (s.2 6) 2 → f18 z = 0 ∨ f18 z = 1)) (f_3 : Int → Int) (r_4 : Int) (q_5 : (sureR (ofB f18 ((s.2 6) 2)) (fun z => dig ((s.2 6) 0) ((s.2 6) 1) z x2) r_4)) (c_6 : r_4 = (-1)) (o_7 : (tOK (s.2 6) ∧ rng f13 ((s.2 6) 2) ∧ ∀ z : Int, 0 ≤ z → z < (s.2 6) 2 → f18 z = 0 ∨ f18 z = 1)) (f_8 : Int → Int) (f_9 : Int → Int) (q_10 : (BS f_8 ((s.2 6) 2) (stepS f13 ((s.2 6) 2) (fun y => f18 y = 1)))) : k0 = 0 ∧ NXO (s.2 6) (s.2 7) f13 ∧ BS f_8 (s.2 6 2) (crS (s.2 6) (s.2 7) (s.2 9) a1 (i32 (x3 + 1)).toNat) ∧ (x2 = a2 ∧ 0 < s.2 5 0 ∧ 0 ≤ a1 ∧ a1 ≤ 3 ∧ 0 ≤ a2 ∧ a2 < s.2 6 1) ∧ (0 ≤ (i32 (x3 + 1)) ∧ (i32 (x3 + 1)) ≤ 201) ∧ ∀ j : Int, 0 ≤ j → j < (i32 (x3 + 1)) → sureF (crS (s.2 6) (s.2 7) (s.2 9) a1 j.toNat) (fun z => dig (s.2 6 0) (s.2 6 1) z a2) = -1 := by
  obtain ⟨ht, ha, hl⟩ := hp
  have hN := tOK_N ht
  have hL := tOK_L ht
  (try simp only [bI_0, bI_n, Classical.not_not] at *)
  (try have hN2 : 0 < s.2 6 2 := lOK_N ht hl (by omega))
  (try have hq := ‹NXO _ _ _ ∧ BS _ _ _›)
  (try have hq := And.intro hI.2.1 hI.2.2.1)
  (try (have e2 := hI.2.2.2.1.1; subst e2))
  (try have hs := sureF_eq (sureR_c (BS_cr hq.2) (by assumption)))
  (try unfold lex3)
  (try simp only [bI_0, bI_n, Classical.not_not] at *)
  (try simp (disch := omega) only [i32_id] at *)
  first | done | omega | ((repeat' (with_reducible apply And.intro)) <;> first | assumption | rfl | omega | (exact hI.1) | (exact hq.1) | (exact hq.2) | (unfold rFewest; rw [if_neg (by omega)]) | (exact BS_01 hq.2) | (exact NXO_rng hq.1) | (intro j h0 h1; omega) | (unfold rFewest; rw [if_pos (by omega)]; exact nth_eq (isNth_nofirst (fun z a b c => c (hI.2.2.2.2.2 z a (by omega))))) | (unfold rFewest; rw [if_pos (by omega)]; exact nth_eq (isNth_first (by omega) (by omega) (by show sureF _ _ ≠ -1; rw [← hs]; assumption) (fun z a b c => c (hI.2.2.2.2.2 z a b)))) | (rw [show (x3 + 1).toNat = x3.toNat + 1 by omega]; exact BS_step hq.1 hq.2 (by assumption)) | (intro j h0 h1; by_cases e : j = x3; (focus (rw [e, ← hs]; assumption)); (focus (exact hI.2.2.2.2.2 j h0 (by omega)))) | grind [upI])
theorem vX3_fewest_6 (s : MS) (a1 : Int) (a2 : Int) (hp : tOK (s.2 6) ∧ aOK (s.2 6) (s.2 7) ∧ lOK ((s.2 5) 0) (s.2 6)) (x2 : Int) (x3 : Int) (f11 : Int → Int) (f12 : Int → Int) (f13 : Int → Int) (f14 : Int → Int) (f15 : Int → Int) (f16 : Int → Int) (f17 : Int → Int) (f18 : Int → Int) (f19 : Int → Int) (k0 : Int) (k25 : Int) (k33 : Int) (k34 : Int) (hI : k0 = 0 ∧ NXO (s.2 6) (s.2 7) f13 ∧ BS f18 (s.2 6 2) (crS (s.2 6) (s.2 7) (s.2 9) a1 x3.toNat) ∧ (x2 = a2 ∧ 0 < s.2 5 0 ∧ 0 ≤ a1 ∧ a1 ≤ 3 ∧ 0 ≤ a2 ∧ a2 < s.2 6 1) ∧ (0 ≤ x3 ∧ x3 ≤ 201) ∧ ∀ j : Int, 0 ≤ j → j < x3 → sureF (crS (s.2 6) (s.2 7) (s.2 9) a1 j.toNat) (fun z => dig (s.2 6 0) (s.2 6 1) z a2) = -1) (c_1 : ¬ 200 < x3) (o_2 : (tOK (s.2 6) ∧ (0 ≤ x2 ∧ x2 < (s.2 6) 1) ∧ ∀ z : Int, 0 ≤ z → z < (s.2 6) 2 → f18 z = 0 ∨ f18 z = 1)) (f_3 : Int → Int) (r_4 : Int) (q_5 : (sureR (ofB f18 ((s.2 6) 2)) (fun z => dig ((s.2 6) 0) ((s.2 6) 1) z x2) r_4)) (c_6 : r_4 = (-1)) (o_7 : (tOK (s.2 6) ∧ rng f13 ((s.2 6) 2) ∧ ∀ z : Int, 0 ≤ z → z < (s.2 6) 2 → f18 z = 0 ∨ f18 z = 1)) (f_8 : Int → Int) (f_9 : Int → Int) (q_10 : (BS f_8 ((s.2 6) 2) (stepS f13 ((s.2 6) 2) (fun y => f18 y = 1)))) : lex3 0 0 ((201 - (i32 (x3 + 1))).toNat) 0 0 ((201 - x3).toNat) := by
  obtain ⟨ht, ha, hl⟩ := hp
  have hN := tOK_N ht
  have hL := tOK_L ht
  (try simp only [bI_0, bI_n, Classical.not_not] at *)
  (try have hN2 : 0 < s.2 6 2 := lOK_N ht hl (by omega))
  (try have hq := ‹NXO _ _ _ ∧ BS _ _ _›)
  (try have hq := And.intro hI.2.1 hI.2.2.1)
  (try (have e2 := hI.2.2.2.1.1; subst e2))
  (try have hs := sureF_eq (sureR_c (BS_cr hq.2) (by assumption)))
  (try unfold lex3)
  (try simp only [bI_0, bI_n, Classical.not_not] at *)
  (try simp (disch := omega) only [i32_id] at *)
  first | done | omega | ((repeat' (with_reducible apply And.intro)) <;> first | assumption | rfl | omega | (exact hI.1) | (exact hq.1) | (exact hq.2) | (unfold rFewest; rw [if_neg (by omega)]) | (exact BS_01 hq.2) | (exact NXO_rng hq.1) | (intro j h0 h1; omega) | (unfold rFewest; rw [if_pos (by omega)]; exact nth_eq (isNth_nofirst (fun z a b c => c (hI.2.2.2.2.2 z a (by omega))))) | (unfold rFewest; rw [if_pos (by omega)]; exact nth_eq (isNth_first (by omega) (by omega) (by show sureF _ _ ≠ -1; rw [← hs]; assumption) (fun z a b c => c (hI.2.2.2.2.2 z a b)))) | (rw [show (x3 + 1).toNat = x3.toNat + 1 by omega]; exact BS_step hq.1 hq.2 (by assumption)) | (intro j h0 h1; by_cases e : j = x3; (focus (rw [e, ← hs]; assumption)); (focus (exact hI.2.2.2.2.2 j h0 (by omega)))) | grind [upI])
theorem vX3_fewest_7 (s : MS) (a1 : Int) (a2 : Int) (hp : tOK (s.2 6) ∧ aOK (s.2 6) (s.2 7) ∧ lOK ((s.2 5) 0) (s.2 6)) (x2 : Int) (x3 : Int) (f11 : Int → Int) (f12 : Int → Int) (f13 : Int → Int) (f14 : Int → Int) (f15 : Int → Int) (f16 : Int → Int) (f17 : Int → Int) (f18 : Int → Int) (f19 : Int → Int) (k0 : Int) (k25 : Int) (k33 : Int) (k34 : Int) (hI : k0 = 0 ∧ NXO (s.2 6) (s.2 7) f13 ∧ BS f18 (s.2 6 2) (crS (s.2 6) (s.2 7) (s.2 9) a1 x3.toNat) ∧ (x2 = a2 ∧ 0 < s.2 5 0 ∧ 0 ≤ a1 ∧ a1 ≤ 3 ∧ 0 ≤ a2 ∧ a2 < s.2 6 1) ∧ (0 ≤ x3 ∧ x3 ≤ 201) ∧ ∀ j : Int, 0 ≤ j → j < x3 → sureF (crS (s.2 6) (s.2 7) (s.2 9) a1 j.toNat) (fun z => dig (s.2 6 0) (s.2 6 1) z a2) = -1) (c_1 : ¬ 200 < x3) (o_2 : (tOK (s.2 6) ∧ (0 ≤ x2 ∧ x2 < (s.2 6) 1) ∧ ∀ z : Int, 0 ≤ z → z < (s.2 6) 2 → f18 z = 0 ∨ f18 z = 1)) (f_3 : Int → Int) (r_4 : Int) (q_5 : (sureR (ofB f18 ((s.2 6) 2)) (fun z => dig ((s.2 6) 0) ((s.2 6) 1) z x2) r_4)) (c_6 : ¬ r_4 = (-1)) : k0 = (0) := by
  obtain ⟨ht, ha, hl⟩ := hp
  have hN := tOK_N ht
  have hL := tOK_L ht
  (try simp only [bI_0, bI_n, Classical.not_not] at *)
  (try have hN2 : 0 < s.2 6 2 := lOK_N ht hl (by omega))
  (try have hq := ‹NXO _ _ _ ∧ BS _ _ _›)
  (try have hq := And.intro hI.2.1 hI.2.2.1)
  (try (have e2 := hI.2.2.2.1.1; subst e2))
  (try have hs := sureF_eq (sureR_c (BS_cr hq.2) (by assumption)))
  (try unfold lex3)
  (try simp only [bI_0, bI_n, Classical.not_not] at *)
  (try simp (disch := omega) only [i32_id] at *)
  first | done | omega | ((repeat' (with_reducible apply And.intro)) <;> first | assumption | rfl | omega | (exact hI.1) | (exact hq.1) | (exact hq.2) | (unfold rFewest; rw [if_neg (by omega)]) | (exact BS_01 hq.2) | (exact NXO_rng hq.1) | (intro j h0 h1; omega) | (unfold rFewest; rw [if_pos (by omega)]; exact nth_eq (isNth_nofirst (fun z a b c => c (hI.2.2.2.2.2 z a (by omega))))) | (unfold rFewest; rw [if_pos (by omega)]; exact nth_eq (isNth_first (by omega) (by omega) (by show sureF _ _ ≠ -1; rw [← hs]; assumption) (fun z a b c => c (hI.2.2.2.2.2 z a b)))) | (rw [show (x3 + 1).toNat = x3.toNat + 1 by omega]; exact BS_step hq.1 hq.2 (by assumption)) | (intro j h0 h1; by_cases e : j = x3; (focus (rw [e, ← hs]; assumption)); (focus (exact hI.2.2.2.2.2 j h0 (by omega)))) | grind [upI])
theorem vX3_fewest_8 (s : MS) (a1 : Int) (a2 : Int) (hp : tOK (s.2 6) ∧ aOK (s.2 6) (s.2 7) ∧ lOK ((s.2 5) 0) (s.2 6)) (x2 : Int) (x3 : Int) (f11 : Int → Int) (f12 : Int → Int) (f13 : Int → Int) (f14 : Int → Int) (f15 : Int → Int) (f16 : Int → Int) (f17 : Int → Int) (f18 : Int → Int) (f19 : Int → Int) (k0 : Int) (k25 : Int) (k33 : Int) (k34 : Int) (hI : k0 = 0 ∧ NXO (s.2 6) (s.2 7) f13 ∧ BS f18 (s.2 6 2) (crS (s.2 6) (s.2 7) (s.2 9) a1 x3.toNat) ∧ (x2 = a2 ∧ 0 < s.2 5 0 ∧ 0 ≤ a1 ∧ a1 ≤ 3 ∧ 0 ≤ a2 ∧ a2 < s.2 6 1) ∧ (0 ≤ x3 ∧ x3 ≤ 201) ∧ ∀ j : Int, 0 ≤ j → j < x3 → sureF (crS (s.2 6) (s.2 7) (s.2 9) a1 j.toNat) (fun z => dig (s.2 6 0) (s.2 6 1) z a2) = -1) (c_1 : ¬ 200 < x3) (o_2 : (tOK (s.2 6) ∧ (0 ≤ x2 ∧ x2 < (s.2 6) 1) ∧ ∀ z : Int, 0 ≤ z → z < (s.2 6) 2 → f18 z = 0 ∨ f18 z = 1)) (f_3 : Int → Int) (r_4 : Int) (q_5 : (sureR (ofB f18 ((s.2 6) 2)) (fun z => dig ((s.2 6) 0) ((s.2 6) 1) z x2) r_4)) (c_6 : ¬ r_4 = (-1)) : x3 = (rFewest ((s.2 5) 0) (s.2 6) (s.2 7) (s.2 9) a1 a2) := by
  obtain ⟨ht, ha, hl⟩ := hp
  have hN := tOK_N ht
  have hL := tOK_L ht
  (try simp only [bI_0, bI_n, Classical.not_not] at *)
  (try have hN2 : 0 < s.2 6 2 := lOK_N ht hl (by omega))
  (try have hq := ‹NXO _ _ _ ∧ BS _ _ _›)
  (try have hq := And.intro hI.2.1 hI.2.2.1)
  (try (have e2 := hI.2.2.2.1.1; subst e2))
  (try have hs := sureF_eq (sureR_c (BS_cr hq.2) (by assumption)))
  (try unfold lex3)
  (try simp only [bI_0, bI_n, Classical.not_not] at *)
  (try simp (disch := omega) only [i32_id] at *)
  first | done | omega | ((repeat' (with_reducible apply And.intro)) <;> first | assumption | rfl | omega | (exact hI.1) | (exact hq.1) | (exact hq.2) | (unfold rFewest; rw [if_neg (by omega)]) | (exact BS_01 hq.2) | (exact NXO_rng hq.1) | (intro j h0 h1; omega) | (unfold rFewest; rw [if_pos (by omega)]; exact nth_eq (isNth_nofirst (fun z a b c => c (hI.2.2.2.2.2 z a (by omega))))) | (unfold rFewest; rw [if_pos (by omega)]; exact nth_eq (isNth_first (by omega) (by omega) (by show sureF _ _ ≠ -1; rw [← hs]; assumption) (fun z a b c => c (hI.2.2.2.2.2 z a b)))) | (rw [show (x3 + 1).toNat = x3.toNat + 1 by omega]; exact BS_step hq.1 hq.2 (by assumption)) | (intro j h0 h1; by_cases e : j = x3; (focus (rw [e, ← hs]; assumption)); (focus (exact hI.2.2.2.2.2 j h0 (by omega)))) | grind [upI])
theorem vX3_fewest_9 (s : MS) (a1 : Int) (a2 : Int) (hp : tOK (s.2 6) ∧ aOK (s.2 6) (s.2 7) ∧ lOK ((s.2 5) 0) (s.2 6)) (c_2 : (bI (0 < (s.2 5) 0 ∧ (0 ≤ a1 ∧ a1 ≤ 3) ∧ 0 ≤ (0 : Int) ∧ (0 : Int) ≤ 200)) = 0) : (-2) = (rFewest ((s.2 5) 0) (s.2 6) (s.2 7) (s.2 9) a1 a2) := by
  obtain ⟨ht, ha, hl⟩ := hp
  have hN := tOK_N ht
  have hL := tOK_L ht
  (try simp only [bI_0, bI_n, Classical.not_not] at *)
  (try have hN2 : 0 < s.2 6 2 := lOK_N ht hl (by omega))
  (try have hq := ‹NXO _ _ _ ∧ BS _ _ _›)
  (try have hq := And.intro hI.2.1 hI.2.2.1)
  (try (have e2 := hI.2.2.2.1.1; subst e2))
  (try have hs := sureF_eq (sureR_c (BS_cr hq.2) (by assumption)))
  (try unfold lex3)
  (try simp only [bI_0, bI_n, Classical.not_not] at *)
  (try simp (disch := omega) only [i32_id] at *)
  first | done | omega | ((repeat' (with_reducible apply And.intro)) <;> first | assumption | rfl | omega | (exact hI.1) | (exact hq.1) | (exact hq.2) | (unfold rFewest; rw [if_neg (by omega)]) | (exact BS_01 hq.2) | (exact NXO_rng hq.1) | (intro j h0 h1; omega) | (unfold rFewest; rw [if_pos (by omega)]; exact nth_eq (isNth_nofirst (fun z a b c => c (hI.2.2.2.2.2 z a (by omega))))) | (unfold rFewest; rw [if_pos (by omega)]; exact nth_eq (isNth_first (by omega) (by omega) (by show sureF _ _ ≠ -1; rw [← hs]; assumption) (fun z a b c => c (hI.2.2.2.2.2 z a b)))) | (rw [show (x3 + 1).toNat = x3.toNat + 1 by omega]; exact BS_step hq.1 hq.2 (by assumption)) | (intro j h0 h1; by_cases e : j = x3; (focus (rw [e, ← hs]; assumption)); (focus (exact hI.2.2.2.2.2 j h0 (by omega)))) | grind [upI])
theorem vX3_fewest_10 (s : MS) (a1 : Int) (a2 : Int) (hp : tOK (s.2 6) ∧ aOK (s.2 6) (s.2 7) ∧ lOK ((s.2 5) 0) (s.2 6)) (c_2 : ¬ (bI (0 < (s.2 5) 0 ∧ (0 ≤ a1 ∧ a1 ≤ 3) ∧ 0 ≤ (0 : Int) ∧ (0 : Int) ≤ 200)) = 0) (c_4 : ¬ (bI ((0 : Int) ≤ a2 ∧ a2 ≤ (i32 ((s.2 6 1) - 1)))) = 0) : (tOK (s.2 6) ∧ aOK (s.2 6) (s.2 7) ∧ (0 ≤ a1 ∧ a1 ≤ 3) ∧ 0 ≤ (0 : Int) ∧ (0 : Int) ≤ 200) := by
  obtain ⟨ht, ha, hl⟩ := hp
  have hN := tOK_N ht
  have hL := tOK_L ht
  (try simp only [bI_0, bI_n, Classical.not_not] at *)
  (try have hN2 : 0 < s.2 6 2 := lOK_N ht hl (by omega))
  (try have hq := ‹NXO _ _ _ ∧ BS _ _ _›)
  (try have hq := And.intro hI.2.1 hI.2.2.1)
  (try (have e2 := hI.2.2.2.1.1; subst e2))
  (try have hs := sureF_eq (sureR_c (BS_cr hq.2) (by assumption)))
  (try unfold lex3)
  (try simp only [bI_0, bI_n, Classical.not_not] at *)
  (try simp (disch := omega) only [i32_id] at *)
  first | done | omega | ((repeat' (with_reducible apply And.intro)) <;> first | assumption | rfl | omega | (exact hI.1) | (exact hq.1) | (exact hq.2) | (unfold rFewest; rw [if_neg (by omega)]) | (exact BS_01 hq.2) | (exact NXO_rng hq.1) | (intro j h0 h1; omega) | (unfold rFewest; rw [if_pos (by omega)]; exact nth_eq (isNth_nofirst (fun z a b c => c (hI.2.2.2.2.2 z a (by omega))))) | (unfold rFewest; rw [if_pos (by omega)]; exact nth_eq (isNth_first (by omega) (by omega) (by show sureF _ _ ≠ -1; rw [← hs]; assumption) (fun z a b c => c (hI.2.2.2.2.2 z a b)))) | (rw [show (x3 + 1).toNat = x3.toNat + 1 by omega]; exact BS_step hq.1 hq.2 (by assumption)) | (intro j h0 h1; by_cases e : j = x3; (focus (rw [e, ← hs]; assumption)); (focus (exact hI.2.2.2.2.2 j h0 (by omega)))) | grind [upI])
theorem vX3_fewest_11 (s : MS) (a1 : Int) (a2 : Int) (hp : tOK (s.2 6) ∧ aOK (s.2 6) (s.2 7) ∧ lOK ((s.2 5) 0) (s.2 6)) (c_2 : ¬ (bI (0 < (s.2 5) 0 ∧ (0 ≤ a1 ∧ a1 ≤ 3) ∧ 0 ≤ (0 : Int) ∧ (0 : Int) ≤ 200)) = 0) (c_4 : ¬ (bI ((0 : Int) ≤ a2 ∧ a2 ≤ (i32 ((s.2 6 1) - 1)))) = 0) (o_5 : (tOK (s.2 6) ∧ aOK (s.2 6) (s.2 7) ∧ (0 ≤ a1 ∧ a1 ≤ 3) ∧ 0 ≤ (0 : Int) ∧ (0 : Int) ≤ 200)) (f_6 : Int → Int) (f_7 : Int → Int) (f_8 : Int → Int) (f_9 : Int → Int) (f_10 : Int → Int) (k_11 : Int) (q_12 : (NXO (s.2 6) (s.2 7) f_8 ∧ BS f_9 ((s.2 6) 2) (crS (s.2 6) (s.2 7) (s.2 9) a1 ((0 : Int)).toNat))) : (0 : Int) = 0 ∧ NXO (s.2 6) (s.2 7) f_8 ∧ BS f_9 (s.2 6 2) (crS (s.2 6) (s.2 7) (s.2 9) a1 (0 : Int).toNat) ∧ (a2 = a2 ∧ 0 < s.2 5 0 ∧ 0 ≤ a1 ∧ a1 ≤ 3 ∧ 0 ≤ a2 ∧ a2 < s.2 6 1) ∧ (0 ≤ (0 : Int) ∧ (0 : Int) ≤ 201) ∧ ∀ j : Int, 0 ≤ j → j < (0 : Int) → sureF (crS (s.2 6) (s.2 7) (s.2 9) a1 j.toNat) (fun z => dig (s.2 6 0) (s.2 6 1) z a2) = -1 := by
  obtain ⟨ht, ha, hl⟩ := hp
  have hN := tOK_N ht
  have hL := tOK_L ht
  (try simp only [bI_0, bI_n, Classical.not_not] at *)
  (try have hN2 : 0 < s.2 6 2 := lOK_N ht hl (by omega))
  (try have hq := ‹NXO _ _ _ ∧ BS _ _ _›)
  (try have hq := And.intro hI.2.1 hI.2.2.1)
  (try (have e2 := hI.2.2.2.1.1; subst e2))
  (try have hs := sureF_eq (sureR_c (BS_cr hq.2) (by assumption)))
  (try unfold lex3)
  (try simp only [bI_0, bI_n, Classical.not_not] at *)
  (try simp (disch := omega) only [i32_id] at *)
  first | done | omega | ((repeat' (with_reducible apply And.intro)) <;> first | assumption | rfl | omega | (exact hI.1) | (exact hq.1) | (exact hq.2) | (unfold rFewest; rw [if_neg (by omega)]) | (exact BS_01 hq.2) | (exact NXO_rng hq.1) | (intro j h0 h1; omega) | (unfold rFewest; rw [if_pos (by omega)]; exact nth_eq (isNth_nofirst (fun z a b c => c (hI.2.2.2.2.2 z a (by omega))))) | (unfold rFewest; rw [if_pos (by omega)]; exact nth_eq (isNth_first (by omega) (by omega) (by show sureF _ _ ≠ -1; rw [← hs]; assumption) (fun z a b c => c (hI.2.2.2.2.2 z a b)))) | (rw [show (x3 + 1).toNat = x3.toNat + 1 by omega]; exact BS_step hq.1 hq.2 (by assumption)) | (intro j h0 h1; by_cases e : j = x3; (focus (rw [e, ← hs]; assumption)); (focus (exact hI.2.2.2.2.2 j h0 (by omega)))) | grind [upI])
theorem vX3_fewest_12 (s : MS) (a1 : Int) (a2 : Int) (hp : tOK (s.2 6) ∧ aOK (s.2 6) (s.2 7) ∧ lOK ((s.2 5) 0) (s.2 6)) (c_2 : ¬ (bI (0 < (s.2 5) 0 ∧ (0 ≤ a1 ∧ a1 ≤ 3) ∧ 0 ≤ (0 : Int) ∧ (0 : Int) ≤ 200)) = 0) (c_4 : (bI ((0 : Int) ≤ a2 ∧ a2 ≤ (i32 ((s.2 6 1) - 1)))) = 0) : (-2) = (rFewest ((s.2 5) 0) (s.2 6) (s.2 7) (s.2 9) a1 a2) := by
  obtain ⟨ht, ha, hl⟩ := hp
  have hN := tOK_N ht
  have hL := tOK_L ht
  (try simp only [bI_0, bI_n, Classical.not_not] at *)
  (try have hN2 : 0 < s.2 6 2 := lOK_N ht hl (by omega))
  (try have hq := ‹NXO _ _ _ ∧ BS _ _ _›)
  (try have hq := And.intro hI.2.1 hI.2.2.1)
  (try (have e2 := hI.2.2.2.1.1; subst e2))
  (try have hs := sureF_eq (sureR_c (BS_cr hq.2) (by assumption)))
  (try unfold lex3)
  (try simp only [bI_0, bI_n, Classical.not_not] at *)
  (try simp (disch := omega) only [i32_id] at *)
  first | done | omega | ((repeat' (with_reducible apply And.intro)) <;> first | assumption | rfl | omega | (exact hI.1) | (exact hq.1) | (exact hq.2) | (unfold rFewest; rw [if_neg (by omega)]) | (exact BS_01 hq.2) | (exact NXO_rng hq.1) | (intro j h0 h1; omega) | (unfold rFewest; rw [if_pos (by omega)]; exact nth_eq (isNth_nofirst (fun z a b c => c (hI.2.2.2.2.2 z a (by omega))))) | (unfold rFewest; rw [if_pos (by omega)]; exact nth_eq (isNth_first (by omega) (by omega) (by show sureF _ _ ≠ -1; rw [← hs]; assumption) (fun z a b c => c (hI.2.2.2.2.2 z a b)))) | (rw [show (x3 + 1).toNat = x3.toNat + 1 by omega]; exact BS_step hq.1 hq.2 (by assumption)) | (intro j h0 h1; by_cases e : j = x3; (focus (rw [e, ← hs]; assumption)); (focus (exact hI.2.2.2.2.2 j h0 (by omega)))) | grind [upI])
theorem allX3_fewest (b : AH) (s : MS) (a1 : Int) (a2 : Int) (hp : tOK (s.2 6) ∧ aOK (s.2 6) (s.2 7) ∧ lOK ((s.2 5) 0) (s.2 6)) : ∀ m1 m2 m3 : Nat, (∀ (x2 : Int) (x3 : Int) (f11 : Int → Int) (f12 : Int → Int) (f13 : Int → Int) (f14 : Int → Int) (f15 : Int → Int) (f16 : Int → Int) (f17 : Int → Int) (f18 : Int → Int) (f19 : Int → Int) (k0 : Int) (k25 : Int) (k33 : Int) (k34 : Int), m1 = 0 → m2 = 0 → m3 = ((201 - x3).toNat) → (k0 = 0 ∧ NXO (s.2 6) (s.2 7) f13 ∧ BS f18 (s.2 6 2) (crS (s.2 6) (s.2 7) (s.2 9) a1 x3.toNat) ∧ (x2 = a2 ∧ 0 < s.2 5 0 ∧ 0 ≤ a1 ∧ a1 ≤ 3 ∧ 0 ≤ a2 ∧ a2 < s.2 6 1) ∧ (0 ≤ x3 ∧ x3 ≤ 201) ∧ ∀ j : Int, 0 ≤ j → j < x3 → sureF (crS (s.2 6) (s.2 7) (s.2 9) a1 j.toNat) (fun z => dig (s.2 6 0) (s.2 6 1) z a2) = -1) → HX3_fewest_43 (QX3_fewest s a1 a2) b s x2 x3 f11 f12 f13 f14 f15 f16 f17 f18 f19 k0 k25 k33 k34) := by
  refine lex3_ind ?_
  intro m1 m2 m3 ih
  rintro x2 x3 f11 f12 f13 f14 f15 f16 f17 f18 f19 k0 k25 k33 k34 rfl rfl rfl hI
  refine bX3_fewest_43 b s x2 x3 f11 f12 f13 f14 f15 f16 f17 f18 f19 k0 k25 k33 k34 ?_
  refine ⟨fun c_1 => ?_, fun c_1 => ?_⟩
  · exact ⟨f11, f12, f13, f14, f15, f16, f17, f18, f19, k25, k33, k34, (rI_c (vX3_fewest_2 s a1 a2 hp x2 x3 f11 f12 f13 f14 f15 f16 f17 f18 f19 k0 k25 k33 k34 hI c_1)), (sS_c (sS_c (sS_c (sS_c (sA_c (sA_c (sA_c (sA_c (sA_c (sA_c (sA_c (sA_c (sA_c rfl rfl) rfl) rfl) rfl) rfl) rfl) rfl) rfl) rfl) (vX3_fewest_1 s a1 a2 hp x2 x3 f11 f12 f13 f14 f15 f16 f17 f18 f19 k0 k25 k33 k34 hI c_1)) rfl) rfl) rfl)⟩
  · have o_2 : (tOK (s.2 6) ∧ (0 ≤ x2 ∧ x2 < (s.2 6) 1) ∧ ∀ z : Int, 0 ≤ z → z < (s.2 6) 2 → f18 z = 0 ∨ f18 z = 1) := (vX3_fewest_3 s a1 a2 hp x2 x3 f11 f12 f13 f14 f15 f16 f17 f18 f19 k0 k25 k33 k34 hI c_1)
    refine ⟨o_2, ?_⟩
    intro f_3 r_4 q_5
    refine ⟨fun c_6 => ?_, fun c_6 => ?_⟩
    · have o_7 : (tOK (s.2 6) ∧ rng f13 ((s.2 6) 2) ∧ ∀ z : Int, 0 ≤ z → z < (s.2 6) 2 → f18 z = 0 ∨ f18 z = 1) := (vX3_fewest_4 s a1 a2 hp x2 x3 f11 f12 f13 f14 f15 f16 f17 f18 f19 k0 k25 k33 k34 hI c_1 o_2 f_3 r_4 q_5 c_6)
      refine ⟨o_7, ?_⟩
      intro f_8 f_9 q_10
      exact (ih _ _ _ (vX3_fewest_6 s a1 a2 hp x2 x3 f11 f12 f13 f14 f15 f16 f17 f18 f19 k0 k25 k33 k34 hI c_1 o_2 f_3 r_4 q_5 c_6 o_7 f_8 f_9 q_10)) x2 (i32 (x3 + 1)) f_3 f12 f13 f14 f15 f16 f17 f_8 f_9 k0 k25 k33 k34 rfl rfl rfl (vX3_fewest_5 s a1 a2 hp x2 x3 f11 f12 f13 f14 f15 f16 f17 f18 f19 k0 k25 k33 k34 hI c_1 o_2 f_3 r_4 q_5 c_6 o_7 f_8 f_9 q_10)
    · exact ⟨f_3, f12, f13, f14, f15, f16, f17, f18, f19, k25, k33, k34, (rI_c (vX3_fewest_8 s a1 a2 hp x2 x3 f11 f12 f13 f14 f15 f16 f17 f18 f19 k0 k25 k33 k34 hI c_1 o_2 f_3 r_4 q_5 c_6)), (sS_c (sS_c (sS_c (sS_c (sA_c (sA_c (sA_c (sA_c (sA_c (sA_c (sA_c (sA_c (sA_c rfl rfl) rfl) rfl) rfl) rfl) rfl) rfl) rfl) rfl) (vX3_fewest_7 s a1 a2 hp x2 x3 f11 f12 f13 f14 f15 f16 f17 f18 f19 k0 k25 k33 k34 hI c_1 o_2 f_3 r_4 q_5 c_6)) rfl) rfl) rfl)⟩
theorem ctX3_fewest (b : AH) (s : MS) (a1 : Int) (a2 : Int) (hp : tOK (s.2 6) ∧ aOK (s.2 6) (s.2 7) ∧ lOK ((s.2 5) 0) (s.2 6)) : MC mX3_fewest 9 b s [vI a1, vI a2] (QX3_fewest s a1 a2) := by
  refine MC.of (by decide) rfl (Nat.le_of_ble_eq_true rfl) (JW.steq (s2 := sS (sS (sS (sS (sA (sA (sA (sA (sA (sA (sA (sA (sA s 11 (s.2 11)) 12 (s.2 12)) 13 (s.2 13)) 14 (s.2 14)) 15 (s.2 15)) 16 (s.2 16)) 17 (s.2 17)) 18 (s.2 18)) 19 (s.2 19)) 0 (s.1 0)) 25 (s.1 25)) 33 (s.1 33)) 34 (s.1 34)) (by simp only [sA_id, sS_id]) ?_)
  refine bX3_fewest_0 b s a1 a2 (s.2 11) (s.2 12) (s.2 13) (s.2 14) (s.2 15) (s.2 16) (s.2 17) (s.2 18) (s.2 19) (s.1 0) (s.1 25) (s.1 33) (s.1 34) ?_
  refine ⟨fun c_2 => ?_, fun c_2 => ?_⟩
  · exact ⟨(s.2 11), (s.2 12), (s.2 13), (s.2 14), (s.2 15), (s.2 16), (s.2 17), (s.2 18), (s.2 19), (s.1 25), (s.1 33), (s.1 34), (rI_c (vX3_fewest_9 s a1 a2 hp c_2)), rfl⟩
  · refine ⟨fun c_4 => ?_, fun c_4 => ?_⟩
    · have o_5 : (tOK (s.2 6) ∧ aOK (s.2 6) (s.2 7) ∧ (0 ≤ a1 ∧ a1 ≤ 3) ∧ 0 ≤ (0 : Int) ∧ (0 : Int) ≤ 200) := (vX3_fewest_10 s a1 a2 hp c_2 c_4)
      refine ⟨o_5, ?_⟩
      intro f_6 f_7 f_8 f_9 f_10 k_11 q_12
      exact (allX3_fewest b s a1 a2 hp _ _ _) a2 0 f_6 f_7 f_8 (s.2 14) (s.2 15) (s.2 16) (s.2 17) f_9 f_10 0 k_11 (s.1 33) (s.1 34) rfl rfl rfl (vX3_fewest_11 s a1 a2 hp c_2 c_4 o_5 f_6 f_7 f_8 f_9 f_10 k_11 q_12)
    · exact ⟨(s.2 11), (s.2 12), (s.2 13), (s.2 14), (s.2 15), (s.2 16), (s.2 17), (s.2 18), (s.2 19), (s.1 25), (s.1 33), (s.1 34), (rI_c (vX3_fewest_12 s a1 a2 hp c_2 c_4)), rfl⟩
def HX3_manyIn_0 (Q : Option AV → MS → Prop) (b : AH) (s : MS) : Prop := MW mX3_manyIn 1 Q b 0 [(0, vR 351)] [] s
def HX3_manyIn_4 (Q : Option AV → MS → Prop) (b : AH) (s : MS) (x1 : Int) (x2 : Int) : Prop := MW mX3_manyIn 1 Q b 4 [(0, vR 351), (1, vI x1), (2, vI x2)] [] s
theorem bX3_manyIn_0 {Q : Option AV → MS → Prop} (b : AH) (s : MS) (K : HX3_manyIn_4 Q b s 0 0) : HX3_manyIn_0 Q b s  := by
  refine JW.iconst dX3_manyIn_0 rfl ?_
  refine JW.istore_n (ls' := [(0, vR 351), (1, vI 0)]) dX3_manyIn_1 (Nat.le_of_ble_eq_true rfl) rfl ?_
  refine JW.iconst dX3_manyIn_2 rfl ?_
  refine JW.istore_n (ls' := [(0, vR 351), (1, vI 0), (2, vI 0)]) dX3_manyIn_3 (Nat.le_of_ble_eq_true rfl) rfl ?_
  exact JW.pick [0, 1, 2] rfl K
theorem bX3_manyIn_4 {Q : Option AV → MS → Prop} (b : AH) (s : MS) (x1 : Int) (x2 : Int) (K : ((s.2 6 2) ≤ x2 → Q (some (vI x1)) s) ∧ (¬ (s.2 6 2) ≤ x2 → (0 ≤ x2 ∧ x2 < 10000) ∧ (((s.2 18 x2) = 0 → HX3_manyIn_4 Q b s (i32 (x1 + 0)) (i32 (x2 + 1))) ∧ (¬ (s.2 18 x2) = 0 → HX3_manyIn_4 Q b s (i32 (x1 + 1)) (i32 (x2 + 1)))))) : HX3_manyIn_4 Q b s x1 x2 := by
  refine JW.iload_n dX3_manyIn_4 rfl ?_
  refine JW.aload_n dX3_manyIn_5 rfl ?_
  refine JW.mget (v := vR 358) dX3_manyIn_6 fX3_34 rfl ?_
  refine JW.iconst dX3_manyIn_9 rfl ?_
  refine JW.mald 6 (x := (s.2 6 2)) dX3_manyIn_10 (Nat.le_of_ble_eq_true rfl) rfl (by decide) (by decide) rfl ?_
  refine JW.icmp_ge (tgt := 37) dX3_manyIn_11 rfl (fun c_1 => ?_) (fun c_1 => ?_)
  · have K := K.1 c_1
    refine JW.iload_n dX3_manyIn_37 rfl ?_
    exact JW.ireturn dX3_manyIn_38 rfl rfl ⟨_, rfl, K⟩
  · have K := K.2 c_1
    refine JW.iload_n dX3_manyIn_14 rfl ?_
    refine JW.aload_n dX3_manyIn_15 rfl ?_
    refine JW.mget (v := vR 370) dX3_manyIn_16 fX3_71 rfl ?_
    refine JW.iload_n dX3_manyIn_19 rfl ?_
    obtain ⟨o_2, K⟩ := K
    refine JW.mzld 18 (x := (s.2 18 x2)) dX3_manyIn_20 (Nat.le_of_ble_eq_true rfl) rfl o_2.1 o_2.2 rfl ?_
    refine JW.if_eq (tgt := 28) dX3_manyIn_21 rfl (fun c_3 => ?_) (fun c_3 => ?_)
    · have K := K.1 c_3
      refine JW.iconst dX3_manyIn_28 rfl ?_
      refine JW.iadd dX3_manyIn_29 ?_
      refine JW.istore_n (ls' := [(0, vR 351), (1, vI (i32 (x1 + 0))), (2, vI x2)]) dX3_manyIn_30 (Nat.le_of_ble_eq_true rfl) rfl ?_
      refine JW.iinc (ls' := [(0, vR 351), (1, vI (i32 (x1 + 0))), (2, vI (i32 (x2 + 1)))]) dX3_manyIn_31 (Nat.le_of_ble_eq_true rfl) rfl rfl ?_
      refine JW.goto (tgt := 4) dX3_manyIn_34 rfl ?_
      exact JW.pick [0, 1, 2] rfl K
    · have K := K.2 c_3
      refine JW.iconst dX3_manyIn_24 rfl ?_
      refine JW.goto (tgt := 29) dX3_manyIn_25 rfl ?_
      refine JW.iadd dX3_manyIn_29 ?_
      refine JW.istore_n (ls' := [(0, vR 351), (1, vI (i32 (x1 + 1))), (2, vI x2)]) dX3_manyIn_30 (Nat.le_of_ble_eq_true rfl) rfl ?_
      refine JW.iinc (ls' := [(0, vR 351), (1, vI (i32 (x1 + 1))), (2, vI (i32 (x2 + 1)))]) dX3_manyIn_31 (Nat.le_of_ble_eq_true rfl) rfl rfl ?_
      refine JW.goto (tgt := 4) dX3_manyIn_34 rfl ?_
      exact JW.pick [0, 1, 2] rfl K
def QX3_manyIn (s : MS) : Option AV → MS → Prop := fun v s' => v = some (vI (many (fun z => (s.2 18) z = 1) ((s.2 6) 2).toNat)) ∧ s' = s
theorem vX3_manyIn_1 (s : MS) (hp : tOK (s.2 6) ∧ ∀ z : Int, 0 ≤ z → z < (s.2 6) 2 → (s.2 18) z = 0 ∨ (s.2 18) z = 1) (x1 : Int) (x2 : Int) (hI : (0 ≤ x2 ∧ x2 ≤ s.2 6 2) ∧ x1 = many (fun z => s.2 18 z = 1) x2.toNat) (c_1 : (s.2 6 2) ≤ x2) : x1 = (many (fun z => (s.2 18) z = 1) ((s.2 6) 2).toNat) := by
  obtain ⟨ht, hb⟩ := hp
  have hN := tOK_N ht
  (try have hm := many_b (fun z => s.2 18 z = 1) x2.toNat)
  (try have h01 := hb x2 (by omega) (by omega))
  (try unfold lex3)
  (try simp only [bI_0, bI_n, Classical.not_not] at *)
  (try simp (disch := omega) only [i32_id] at *)
  first | done | omega | ((repeat' (with_reducible apply And.intro)) <;> first | assumption | rfl | omega | (rw [hI.2, show x2 = s.2 6 2 by omega]) | (have h9 := many_t (p := fun z => s.2 18 z = 1) (k := x2) (by omega) (by omega); omega) | (have h9 := many_f (p := fun z => s.2 18 z = 1) (k := x2) (by omega) (by omega); omega) | (have h9 : many (fun z => s.2 18 z = 1) (0 : Int).toNat = 0 := rfl; omega) | grind [upI])
theorem vX3_manyIn_2 (s : MS) (hp : tOK (s.2 6) ∧ ∀ z : Int, 0 ≤ z → z < (s.2 6) 2 → (s.2 18) z = 0 ∨ (s.2 18) z = 1) (x1 : Int) (x2 : Int) (hI : (0 ≤ x2 ∧ x2 ≤ s.2 6 2) ∧ x1 = many (fun z => s.2 18 z = 1) x2.toNat) (c_1 : ¬ (s.2 6 2) ≤ x2) : (0 ≤ x2 ∧ x2 < 10000) := by
  obtain ⟨ht, hb⟩ := hp
  have hN := tOK_N ht
  (try have hm := many_b (fun z => s.2 18 z = 1) x2.toNat)
  (try have h01 := hb x2 (by omega) (by omega))
  (try unfold lex3)
  (try simp only [bI_0, bI_n, Classical.not_not] at *)
  (try simp (disch := omega) only [i32_id] at *)
  first | done | omega | ((repeat' (with_reducible apply And.intro)) <;> first | assumption | rfl | omega | (rw [hI.2, show x2 = s.2 6 2 by omega]) | (have h9 := many_t (p := fun z => s.2 18 z = 1) (k := x2) (by omega) (by omega); omega) | (have h9 := many_f (p := fun z => s.2 18 z = 1) (k := x2) (by omega) (by omega); omega) | (have h9 : many (fun z => s.2 18 z = 1) (0 : Int).toNat = 0 := rfl; omega) | grind [upI])
theorem vX3_manyIn_3 (s : MS) (hp : tOK (s.2 6) ∧ ∀ z : Int, 0 ≤ z → z < (s.2 6) 2 → (s.2 18) z = 0 ∨ (s.2 18) z = 1) (x1 : Int) (x2 : Int) (hI : (0 ≤ x2 ∧ x2 ≤ s.2 6 2) ∧ x1 = many (fun z => s.2 18 z = 1) x2.toNat) (c_1 : ¬ (s.2 6 2) ≤ x2) (o_2 : (0 ≤ x2 ∧ x2 < 10000)) (c_3 : (s.2 18 x2) = 0) : (0 ≤ (i32 (x2 + 1)) ∧ (i32 (x2 + 1)) ≤ s.2 6 2) ∧ (i32 (x1 + 0)) = many (fun z => s.2 18 z = 1) (i32 (x2 + 1)).toNat := by
  obtain ⟨ht, hb⟩ := hp
  have hN := tOK_N ht
  (try have hm := many_b (fun z => s.2 18 z = 1) x2.toNat)
  (try have h01 := hb x2 (by omega) (by omega))
  (try unfold lex3)
  (try simp only [bI_0, bI_n, Classical.not_not] at *)
  (try simp (disch := omega) only [i32_id] at *)
  first | done | omega | ((repeat' (with_reducible apply And.intro)) <;> first | assumption | rfl | omega | (rw [hI.2, show x2 = s.2 6 2 by omega]) | (have h9 := many_t (p := fun z => s.2 18 z = 1) (k := x2) (by omega) (by omega); omega) | (have h9 := many_f (p := fun z => s.2 18 z = 1) (k := x2) (by omega) (by omega); omega) | (have h9 : many (fun z => s.2 18 z = 1) (0 : Int).toNat = 0 := rfl; omega) | grind [upI])
theorem vX3_manyIn_4 (s : MS) (hp : tOK (s.2 6) ∧ ∀ z : Int, 0 ≤ z → z < (s.2 6) 2 → (s.2 18) z = 0 ∨ (s.2 18) z = 1) (x1 : Int) (x2 : Int) (hI : (0 ≤ x2 ∧ x2 ≤ s.2 6 2) ∧ x1 = many (fun z => s.2 18 z = 1) x2.toNat) (c_1 : ¬ (s.2 6 2) ≤ x2) (o_2 : (0 ≤ x2 ∧ x2 < 10000)) (c_3 : (s.2 18 x2) = 0) : lex3 0 0 ((s.2 6 2 - (i32 (x2 + 1))).toNat) 0 0 ((s.2 6 2 - x2).toNat) := by
  obtain ⟨ht, hb⟩ := hp
  have hN := tOK_N ht
  (try have hm := many_b (fun z => s.2 18 z = 1) x2.toNat)
  (try have h01 := hb x2 (by omega) (by omega))
  (try unfold lex3)
  (try simp only [bI_0, bI_n, Classical.not_not] at *)
  (try simp (disch := omega) only [i32_id] at *)
  first | done | omega | ((repeat' (with_reducible apply And.intro)) <;> first | assumption | rfl | omega | (rw [hI.2, show x2 = s.2 6 2 by omega]) | (have h9 := many_t (p := fun z => s.2 18 z = 1) (k := x2) (by omega) (by omega); omega) | (have h9 := many_f (p := fun z => s.2 18 z = 1) (k := x2) (by omega) (by omega); omega) | (have h9 : many (fun z => s.2 18 z = 1) (0 : Int).toNat = 0 := rfl; omega) | grind [upI])
theorem vX3_manyIn_5 (s : MS) (hp : tOK (s.2 6) ∧ ∀ z : Int, 0 ≤ z → z < (s.2 6) 2 → (s.2 18) z = 0 ∨ (s.2 18) z = 1) (x1 : Int) (x2 : Int) (hI : (0 ≤ x2 ∧ x2 ≤ s.2 6 2) ∧ x1 = many (fun z => s.2 18 z = 1) x2.toNat) (c_1 : ¬ (s.2 6 2) ≤ x2) (o_2 : (0 ≤ x2 ∧ x2 < 10000)) (c_3 : ¬ (s.2 18 x2) = 0) : (0 ≤ (i32 (x2 + 1)) ∧ (i32 (x2 + 1)) ≤ s.2 6 2) ∧ (i32 (x1 + 1)) = many (fun z => s.2 18 z = 1) (i32 (x2 + 1)).toNat := by
  obtain ⟨ht, hb⟩ := hp
  have hN := tOK_N ht
  (try have hm := many_b (fun z => s.2 18 z = 1) x2.toNat)
  (try have h01 := hb x2 (by omega) (by omega))
  (try unfold lex3)
  (try simp only [bI_0, bI_n, Classical.not_not] at *)
  (try simp (disch := omega) only [i32_id] at *)
  first | done | omega | ((repeat' (with_reducible apply And.intro)) <;> first | assumption | rfl | omega | (rw [hI.2, show x2 = s.2 6 2 by omega]) | (have h9 := many_t (p := fun z => s.2 18 z = 1) (k := x2) (by omega) (by omega); omega) | (have h9 := many_f (p := fun z => s.2 18 z = 1) (k := x2) (by omega) (by omega); omega) | (have h9 : many (fun z => s.2 18 z = 1) (0 : Int).toNat = 0 := rfl; omega) | grind [upI])
theorem vX3_manyIn_6 (s : MS) (hp : tOK (s.2 6) ∧ ∀ z : Int, 0 ≤ z → z < (s.2 6) 2 → (s.2 18) z = 0 ∨ (s.2 18) z = 1) (x1 : Int) (x2 : Int) (hI : (0 ≤ x2 ∧ x2 ≤ s.2 6 2) ∧ x1 = many (fun z => s.2 18 z = 1) x2.toNat) (c_1 : ¬ (s.2 6 2) ≤ x2) (o_2 : (0 ≤ x2 ∧ x2 < 10000)) (c_3 : ¬ (s.2 18 x2) = 0) : lex3 0 0 ((s.2 6 2 - (i32 (x2 + 1))).toNat) 0 0 ((s.2 6 2 - x2).toNat) := by
  obtain ⟨ht, hb⟩ := hp
  have hN := tOK_N ht
  (try have hm := many_b (fun z => s.2 18 z = 1) x2.toNat)
  (try have h01 := hb x2 (by omega) (by omega))
  (try unfold lex3)
  (try simp only [bI_0, bI_n, Classical.not_not] at *)
  (try simp (disch := omega) only [i32_id] at *)
  first | done | omega | ((repeat' (with_reducible apply And.intro)) <;> first | assumption | rfl | omega | (rw [hI.2, show x2 = s.2 6 2 by omega]) | (have h9 := many_t (p := fun z => s.2 18 z = 1) (k := x2) (by omega) (by omega); omega) | (have h9 := many_f (p := fun z => s.2 18 z = 1) (k := x2) (by omega) (by omega); omega) | (have h9 : many (fun z => s.2 18 z = 1) (0 : Int).toNat = 0 := rfl; omega) | grind [upI])
theorem vX3_manyIn_7 (s : MS) (hp : tOK (s.2 6) ∧ ∀ z : Int, 0 ≤ z → z < (s.2 6) 2 → (s.2 18) z = 0 ∨ (s.2 18) z = 1) : (0 ≤ (0 : Int) ∧ (0 : Int) ≤ s.2 6 2) ∧ (0 : Int) = many (fun z => s.2 18 z = 1) (0 : Int).toNat := by
  obtain ⟨ht, hb⟩ := hp
  have hN := tOK_N ht
  (try have hm := many_b (fun z => s.2 18 z = 1) x2.toNat)
  (try have h01 := hb x2 (by omega) (by omega))
  (try unfold lex3)
  (try simp only [bI_0, bI_n, Classical.not_not] at *)
  (try simp (disch := omega) only [i32_id] at *)
  first | done | omega | ((repeat' (with_reducible apply And.intro)) <;> first | assumption | rfl | omega | (rw [hI.2, show x2 = s.2 6 2 by omega]) | (have h9 := many_t (p := fun z => s.2 18 z = 1) (k := x2) (by omega) (by omega); omega) | (have h9 := many_f (p := fun z => s.2 18 z = 1) (k := x2) (by omega) (by omega); omega) | (have h9 : many (fun z => s.2 18 z = 1) (0 : Int).toNat = 0 := rfl; omega) | grind [upI])
theorem allX3_manyIn (b : AH) (s : MS) (hp : tOK (s.2 6) ∧ ∀ z : Int, 0 ≤ z → z < (s.2 6) 2 → (s.2 18) z = 0 ∨ (s.2 18) z = 1) : ∀ m1 m2 m3 : Nat, (∀ (x1 : Int) (x2 : Int), m1 = 0 → m2 = 0 → m3 = ((s.2 6 2 - x2).toNat) → ((0 ≤ x2 ∧ x2 ≤ s.2 6 2) ∧ x1 = many (fun z => s.2 18 z = 1) x2.toNat) → HX3_manyIn_4 (QX3_manyIn s) b s x1 x2) := by
  refine lex3_ind ?_
  intro m1 m2 m3 ih
  rintro x1 x2 rfl rfl rfl hI
  refine bX3_manyIn_4 b s x1 x2 ?_
  refine ⟨fun c_1 => ?_, fun c_1 => ?_⟩
  · exact ⟨(rI_c (vX3_manyIn_1 s hp x1 x2 hI c_1)), rfl⟩
  · have o_2 : (0 ≤ x2 ∧ x2 < 10000) := (vX3_manyIn_2 s hp x1 x2 hI c_1)
    refine ⟨o_2, ?_⟩
    refine ⟨fun c_3 => ?_, fun c_3 => ?_⟩
    · exact (ih _ _ _ (vX3_manyIn_4 s hp x1 x2 hI c_1 o_2 c_3)) (i32 (x1 + 0)) (i32 (x2 + 1)) rfl rfl rfl (vX3_manyIn_3 s hp x1 x2 hI c_1 o_2 c_3)
    · exact (ih _ _ _ (vX3_manyIn_6 s hp x1 x2 hI c_1 o_2 c_3)) (i32 (x1 + 1)) (i32 (x2 + 1)) rfl rfl rfl (vX3_manyIn_5 s hp x1 x2 hI c_1 o_2 c_3)
theorem ctX3_manyIn (b : AH) (s : MS) (hp : tOK (s.2 6) ∧ ∀ z : Int, 0 ≤ z → z < (s.2 6) 2 → (s.2 18) z = 0 ∨ (s.2 18) z = 1) : MC mX3_manyIn 1 b s [] (QX3_manyIn s) := by
  refine MC.of (by decide) rfl (Nat.le_of_ble_eq_true rfl) ?_
  refine bX3_manyIn_0 b s  ?_
  exact (allX3_manyIn b s hp _ _ _) 0 0 rfl rfl rfl (vX3_manyIn_7 s hp)
def HX3_left_0 (Q : Option AV → MS → Prop) (b : AH) (s : MS) (x1 : Int) (x2 : Int) (f11 : Int → Int) (f12 : Int → Int) (f13 : Int → Int) (f14 : Int → Int) (f15 : Int → Int) (f16 : Int → Int) (f17 : Int → Int) (f18 : Int → Int) (f19 : Int → Int) (k0 : Int) (k25 : Int) (k33 : Int) (k34 : Int) : Prop := MW mX3_left 9 Q b 0 [(0, vR 351), (1, vI x1), (2, vI x2)] [] (sS (sS (sS (sS (sA (sA (sA (sA (sA (sA (sA (sA (sA s 11 f11) 12 f12) 13 f13) 14 f14) 15 f15) 16 f16) 17 f17) 18 f18) 19 f19) 0 k0) 25 k25) 33 k33) 34 k34)
theorem bX3_left_0 {Q : Option AV → MS → Prop} (b : AH) (s : MS) (x1 : Int) (x2 : Int) (f11 : Int → Int) (f12 : Int → Int) (f13 : Int → Int) (f14 : Int → Int) (f15 : Int → Int) (f16 : Int → Int) (f17 : Int → Int) (f18 : Int → Int) (f19 : Int → Int) (k0 : Int) (k25 : Int) (k33 : Int) (k34 : Int) (K : (¬ (bI (0 < (s.2 5) 0 ∧ (0 ≤ x1 ∧ x1 ≤ 3) ∧ 0 ≤ x2 ∧ x2 ≤ 200)) = 0 → (tOK (s.2 6) ∧ aOK (s.2 6) (s.2 7) ∧ (0 ≤ x1 ∧ x1 ≤ 3) ∧ 0 ≤ x2 ∧ x2 ≤ 200) ∧ ((∀ (f_4 : Int → Int) (f_5 : Int → Int) (f_6 : Int → Int) (f_7 : Int → Int) (f_8 : Int → Int) (k_9 : Int), (NXO (s.2 6) (s.2 7) f_6 ∧ BS f_7 ((s.2 6) 2) (crS (s.2 6) (s.2 7) (s.2 9) x1 (x2).toNat)) → (tOK (s.2 6) ∧ ∀ z : Int, 0 ≤ z → z < (s.2 6) 2 → f_7 z = 0 ∨ f_7 z = 1) ∧ (Q (some (vI (many (fun z => f_7 z = 1) ((s.2 6) 2).toNat))) (sS (sS (sS (sS (sA (sA (sA (sA (sA (sA (sA (sA (sA s 11 f_4) 12 f_5) 13 f_6) 14 f14) 15 f15) 16 f16) 17 f17) 18 f_7) 19 f_8) 0 0) 25 k_9) 33 k33) 34 k34))))) ∧ ((bI (0 < (s.2 5) 0 ∧ (0 ≤ x1 ∧ x1 ≤ 3) ∧ 0 ≤ x2 ∧ x2 ≤ 200)) = 0 → Q (some (vI (-2))) (sS (sS (sS (sS (sA (sA (sA (sA (sA (sA (sA (sA (sA s 11 f11) 12 f12) 13 f13) 14 f14) 15 f15) 16 f16) 17 f17) 18 f18) 19 f19) 0 0) 25 k25) 33 k33) 34 k34))) : HX3_left_0 Q b s x1 x2 f11 f12 f13 f14 f15 f16 f17 f18 f19 k0 k25 k33 k34 := by
  refine JW.aload_n dX3_left_0 rfl ?_
  refine JW.iconst dX3_left_1 rfl ?_
  refine JW.mputI dX3_left_2 (pX3_77 _) rfl ?_
  refine JW.steq (s2 := sS (sS (sS (sS (sA (sA (sA (sA (sA (sA (sA (sA (sA s 11 f11) 12 f12) 13 f13) 14 f14) 15 f15) 16 f16) 17 f17) 18 f18) 19 f19) 0 0) 25 k25) 33 k33) 34 k34) (by simp only [sA_A, sS_S, sA_S, sA_lt, sS_lt, Nat.reduceLT, id_eq] <;> rfl) ?_
  refine JW.aload_n dX3_left_5 rfl ?_
  refine JW.iload_n dX3_left_6 rfl ?_
  refine JW.iload_n dX3_left_7 rfl ?_
  refine JW.mcall (As := [vI x1, vI x2]) dX3_left_8 vX3_isCrowd rfl q1985 (ctX3_isCrowd b (sS (sS (sS (sS (sA (sA (sA (sA (sA (sA (sA (sA (sA s 11 f11) 12 f12) 13 f13) 14 f14) 15 f15) 16 f16) 17 f17) 18 f18) 19 f19) 0 0) 25 k25) 33 k33) 34 k34) x1 x2) (Nat.le_of_ble_eq_true rfl) rfl (Nat.le_of_ble_eq_true rfl) ?_
  rintro _ _ ⟨rfl, eq_1⟩
  refine JW.steq (s2 := sS (sS (sS (sS (sA (sA (sA (sA (sA (sA (sA (sA (sA s 11 f11) 12 f12) 13 f13) 14 f14) 15 f15) 16 f16) 17 f17) 18 f18) 19 f19) 0 0) 25 k25) 33 k33) 34 k34) eq_1 ?_
  refine JW.if_ne (tgt := 17) dX3_left_11 rfl (fun c_2 => ?_) (fun c_2 => ?_)
  · have K := K.1 c_2
    refine JW.aload_n dX3_left_17 rfl ?_
    refine JW.iload_n dX3_left_18 rfl ?_
    refine JW.iload_n dX3_left_19 rfl ?_
    obtain ⟨o_3, K⟩ := K
    refine JW.mcall (As := [vI x1, vI x2]) dX3_left_20 vX3_crowdsBehind rfl q1989 (ctX3_crowdsBehind b (sS (sS (sS (sS (sA (sA (sA (sA (sA (sA (sA (sA (sA s 11 f11) 12 f12) 13 f13) 14 f14) 15 f15) 16 f16) 17 f17) 18 f18) 19 f19) 0 0) 25 k25) 33 k33) 34 k34) x1 x2 o_3) (Nat.le_of_ble_eq_true rfl) rfl (Nat.le_of_ble_eq_true rfl) ?_
    rintro _ _ ⟨f_4, f_5, f_6, f_7, f_8, k_9, rfl, rfl, q_10⟩
    refine JW.steq (s2 := sS (sS (sS (sS (sA (sA (sA (sA (sA (sA (sA (sA (sA s 11 f_4) 12 f_5) 13 f_6) 14 f14) 15 f15) 16 f16) 17 f17) 18 f_7) 19 f_8) 0 0) 25 k_9) 33 k33) 34 k34) (by simp only [sA_A, sS_S, sA_S, sA_lt, sS_lt, Nat.reduceLT, id_eq] <;> rfl) ?_
    replace K := K f_4 f_5 f_6 f_7 f_8 k_9 q_10
    refine JW.aload_n dX3_left_23 rfl ?_
    obtain ⟨o_11, K⟩ := K
    refine JW.mcall (As := []) dX3_left_24 vX3_manyIn rfl q2021 (ctX3_manyIn b (sS (sS (sS (sS (sA (sA (sA (sA (sA (sA (sA (sA (sA s 11 f_4) 12 f_5) 13 f_6) 14 f14) 15 f15) 16 f16) 17 f17) 18 f_7) 19 f_8) 0 0) 25 k_9) 33 k33) 34 k34) o_11) (Nat.le_of_ble_eq_true rfl) rfl (Nat.le_of_ble_eq_true rfl) ?_
    rintro _ _ ⟨rfl, eq_12⟩
    refine JW.steq (s2 := sS (sS (sS (sS (sA (sA (sA (sA (sA (sA (sA (sA (sA s 11 f_4) 12 f_5) 13 f_6) 14 f14) 15 f15) 16 f16) 17 f17) 18 f_7) 19 f_8) 0 0) 25 k_9) 33 k33) 34 k34) eq_12 ?_
    exact JW.ireturn dX3_left_27 rfl rfl ⟨_, rfl, K⟩
  · have K := K.2 c_2
    refine JW.bipush dX3_left_14 rfl ?_
    exact JW.ireturn dX3_left_16 rfl rfl ⟨_, rfl, K⟩
def QX3_left (s : MS) (a1 : Int) (a2 : Int) : Option AV → MS → Prop := fun v s' => ∃ (f11 : Int → Int) (f12 : Int → Int) (f13 : Int → Int) (f14 : Int → Int) (f15 : Int → Int) (f16 : Int → Int) (f17 : Int → Int) (f18 : Int → Int) (f19 : Int → Int) (k25 : Int) (k33 : Int) (k34 : Int), v = some (vI (rLeft ((s.2 5) 0) (s.2 6) (s.2 7) (s.2 9) a1 a2)) ∧ s' = sS (sS (sS (sS (sA (sA (sA (sA (sA (sA (sA (sA (sA s 11 f11) 12 f12) 13 f13) 14 f14) 15 f15) 16 f16) 17 f17) 18 f18) 19 f19) 0 (0)) 25 k25) 33 k33) 34 k34
theorem vX3_left_1 (s : MS) (a1 : Int) (a2 : Int) (hp : tOK (s.2 6) ∧ aOK (s.2 6) (s.2 7) ∧ lOK ((s.2 5) 0) (s.2 6)) (c_2 : ¬ (bI (0 < (s.2 5) 0 ∧ (0 ≤ a1 ∧ a1 ≤ 3) ∧ 0 ≤ a2 ∧ a2 ≤ 200)) = 0) : (tOK (s.2 6) ∧ aOK (s.2 6) (s.2 7) ∧ (0 ≤ a1 ∧ a1 ≤ 3) ∧ 0 ≤ a2 ∧ a2 ≤ 200) := by
  obtain ⟨ht, ha, hl⟩ := hp
  have hN := tOK_N ht
  have hL := tOK_L ht
  (try simp only [bI_0, bI_n, Classical.not_not] at *)
  (try have hN2 : 0 < s.2 6 2 := lOK_N ht hl (by omega))
  (try have hq := ‹NXO _ _ _ ∧ BS _ _ _›)
  (try have hq := And.intro hI.2.1 hI.2.2.1)
  (try unfold lex3)
  (try simp only [bI_0, bI_n, Classical.not_not] at *)
  (try simp (disch := omega) only [i32_id] at *)
  first | done | omega | ((repeat' (with_reducible apply And.intro)) <;> first | assumption | rfl | omega | (unfold rLeft; rw [if_neg (by omega)]) | (exact BS_01 hq.2) | (unfold rLeft; rw [if_pos (by omega)]; exact many_c _ (fun i h0 h1 => by rw [hq.2 i h0 (by omega), bC_1])) | grind [upI])
theorem vX3_left_2 (s : MS) (a1 : Int) (a2 : Int) (hp : tOK (s.2 6) ∧ aOK (s.2 6) (s.2 7) ∧ lOK ((s.2 5) 0) (s.2 6)) (c_2 : ¬ (bI (0 < (s.2 5) 0 ∧ (0 ≤ a1 ∧ a1 ≤ 3) ∧ 0 ≤ a2 ∧ a2 ≤ 200)) = 0) (o_3 : (tOK (s.2 6) ∧ aOK (s.2 6) (s.2 7) ∧ (0 ≤ a1 ∧ a1 ≤ 3) ∧ 0 ≤ a2 ∧ a2 ≤ 200)) (f_4 : Int → Int) (f_5 : Int → Int) (f_6 : Int → Int) (f_7 : Int → Int) (f_8 : Int → Int) (k_9 : Int) (q_10 : (NXO (s.2 6) (s.2 7) f_6 ∧ BS f_7 ((s.2 6) 2) (crS (s.2 6) (s.2 7) (s.2 9) a1 (a2).toNat))) : (tOK (s.2 6) ∧ ∀ z : Int, 0 ≤ z → z < (s.2 6) 2 → f_7 z = 0 ∨ f_7 z = 1) := by
  obtain ⟨ht, ha, hl⟩ := hp
  have hN := tOK_N ht
  have hL := tOK_L ht
  (try simp only [bI_0, bI_n, Classical.not_not] at *)
  (try have hN2 : 0 < s.2 6 2 := lOK_N ht hl (by omega))
  (try have hq := ‹NXO _ _ _ ∧ BS _ _ _›)
  (try have hq := And.intro hI.2.1 hI.2.2.1)
  (try unfold lex3)
  (try simp only [bI_0, bI_n, Classical.not_not] at *)
  (try simp (disch := omega) only [i32_id] at *)
  first | done | omega | ((repeat' (with_reducible apply And.intro)) <;> first | assumption | rfl | omega | (unfold rLeft; rw [if_neg (by omega)]) | (exact BS_01 hq.2) | (unfold rLeft; rw [if_pos (by omega)]; exact many_c _ (fun i h0 h1 => by rw [hq.2 i h0 (by omega), bC_1])) | grind [upI])
theorem vX3_left_3 (s : MS) (a1 : Int) (a2 : Int) (hp : tOK (s.2 6) ∧ aOK (s.2 6) (s.2 7) ∧ lOK ((s.2 5) 0) (s.2 6)) (c_2 : ¬ (bI (0 < (s.2 5) 0 ∧ (0 ≤ a1 ∧ a1 ≤ 3) ∧ 0 ≤ a2 ∧ a2 ≤ 200)) = 0) (o_3 : (tOK (s.2 6) ∧ aOK (s.2 6) (s.2 7) ∧ (0 ≤ a1 ∧ a1 ≤ 3) ∧ 0 ≤ a2 ∧ a2 ≤ 200)) (f_4 : Int → Int) (f_5 : Int → Int) (f_6 : Int → Int) (f_7 : Int → Int) (f_8 : Int → Int) (k_9 : Int) (q_10 : (NXO (s.2 6) (s.2 7) f_6 ∧ BS f_7 ((s.2 6) 2) (crS (s.2 6) (s.2 7) (s.2 9) a1 (a2).toNat))) (o_11 : (tOK (s.2 6) ∧ ∀ z : Int, 0 ≤ z → z < (s.2 6) 2 → f_7 z = 0 ∨ f_7 z = 1)) : (many (fun z => f_7 z = 1) ((s.2 6) 2).toNat) = (rLeft ((s.2 5) 0) (s.2 6) (s.2 7) (s.2 9) a1 a2) := by
  obtain ⟨ht, ha, hl⟩ := hp
  have hN := tOK_N ht
  have hL := tOK_L ht
  (try simp only [bI_0, bI_n, Classical.not_not] at *)
  (try have hN2 : 0 < s.2 6 2 := lOK_N ht hl (by omega))
  (try have hq := ‹NXO _ _ _ ∧ BS _ _ _›)
  (try have hq := And.intro hI.2.1 hI.2.2.1)
  (try unfold lex3)
  (try simp only [bI_0, bI_n, Classical.not_not] at *)
  (try simp (disch := omega) only [i32_id] at *)
  first | done | omega | ((repeat' (with_reducible apply And.intro)) <;> first | assumption | rfl | omega | (unfold rLeft; rw [if_neg (by omega)]) | (exact BS_01 hq.2) | (unfold rLeft; rw [if_pos (by omega)]; exact many_c _ (fun i h0 h1 => by rw [hq.2 i h0 (by omega), bC_1])) | grind [upI])
theorem vX3_left_4 (s : MS) (a1 : Int) (a2 : Int) (hp : tOK (s.2 6) ∧ aOK (s.2 6) (s.2 7) ∧ lOK ((s.2 5) 0) (s.2 6)) (c_2 : (bI (0 < (s.2 5) 0 ∧ (0 ≤ a1 ∧ a1 ≤ 3) ∧ 0 ≤ a2 ∧ a2 ≤ 200)) = 0) : (-2) = (rLeft ((s.2 5) 0) (s.2 6) (s.2 7) (s.2 9) a1 a2) := by
  obtain ⟨ht, ha, hl⟩ := hp
  have hN := tOK_N ht
  have hL := tOK_L ht
  (try simp only [bI_0, bI_n, Classical.not_not] at *)
  (try have hN2 : 0 < s.2 6 2 := lOK_N ht hl (by omega))
  (try have hq := ‹NXO _ _ _ ∧ BS _ _ _›)
  (try have hq := And.intro hI.2.1 hI.2.2.1)
  (try unfold lex3)
  (try simp only [bI_0, bI_n, Classical.not_not] at *)
  (try simp (disch := omega) only [i32_id] at *)
  first | done | omega | ((repeat' (with_reducible apply And.intro)) <;> first | assumption | rfl | omega | (unfold rLeft; rw [if_neg (by omega)]) | (exact BS_01 hq.2) | (unfold rLeft; rw [if_pos (by omega)]; exact many_c _ (fun i h0 h1 => by rw [hq.2 i h0 (by omega), bC_1])) | grind [upI])
theorem ctX3_left (b : AH) (s : MS) (a1 : Int) (a2 : Int) (hp : tOK (s.2 6) ∧ aOK (s.2 6) (s.2 7) ∧ lOK ((s.2 5) 0) (s.2 6)) : MC mX3_left 9 b s [vI a1, vI a2] (QX3_left s a1 a2) := by
  refine MC.of (by decide) rfl (Nat.le_of_ble_eq_true rfl) (JW.steq (s2 := sS (sS (sS (sS (sA (sA (sA (sA (sA (sA (sA (sA (sA s 11 (s.2 11)) 12 (s.2 12)) 13 (s.2 13)) 14 (s.2 14)) 15 (s.2 15)) 16 (s.2 16)) 17 (s.2 17)) 18 (s.2 18)) 19 (s.2 19)) 0 (s.1 0)) 25 (s.1 25)) 33 (s.1 33)) 34 (s.1 34)) (by simp only [sA_id, sS_id]) ?_)
  refine bX3_left_0 b s a1 a2 (s.2 11) (s.2 12) (s.2 13) (s.2 14) (s.2 15) (s.2 16) (s.2 17) (s.2 18) (s.2 19) (s.1 0) (s.1 25) (s.1 33) (s.1 34) ?_
  refine ⟨fun c_2 => ?_, fun c_2 => ?_⟩
  · have o_3 : (tOK (s.2 6) ∧ aOK (s.2 6) (s.2 7) ∧ (0 ≤ a1 ∧ a1 ≤ 3) ∧ 0 ≤ a2 ∧ a2 ≤ 200) := (vX3_left_1 s a1 a2 hp c_2)
    refine ⟨o_3, ?_⟩
    intro f_4 f_5 f_6 f_7 f_8 k_9 q_10
    have o_11 : (tOK (s.2 6) ∧ ∀ z : Int, 0 ≤ z → z < (s.2 6) 2 → f_7 z = 0 ∨ f_7 z = 1) := (vX3_left_2 s a1 a2 hp c_2 o_3 f_4 f_5 f_6 f_7 f_8 k_9 q_10)
    refine ⟨o_11, ?_⟩
    exact ⟨f_4, f_5, f_6, (s.2 14), (s.2 15), (s.2 16), (s.2 17), f_7, f_8, k_9, (s.1 33), (s.1 34), (rI_c (vX3_left_3 s a1 a2 hp c_2 o_3 f_4 f_5 f_6 f_7 f_8 k_9 q_10 o_11)), rfl⟩
  · exact ⟨(s.2 11), (s.2 12), (s.2 13), (s.2 14), (s.2 15), (s.2 16), (s.2 17), (s.2 18), (s.2 19), (s.1 25), (s.1 33), (s.1 34), (rI_c (vX3_left_4 s a1 a2 hp c_2)), rfl⟩
def HX3_isRest_0 (Q : Option AV → MS → Prop) (b : AH) (s : MS) (x1 : Int) : Prop := MW mX3_isRest 1 Q b 0 [(0, vR 351), (1, vI x1)] [] s
def HX3_isRest_4 (Q : Option AV → MS → Prop) (b : AH) (s : MS) (x1 : Int) (x2 : Int) (x3 : Int) : Prop := MW mX3_isRest 1 Q b 4 [(0, vR 351), (1, vI x1), (2, vI x2), (3, vI x3)] [] s
theorem bX3_isRest_0 {Q : Option AV → MS → Prop} (b : AH) (s : MS) (x1 : Int) (K : HX3_isRest_4 Q b s x1 (-1) 0) : HX3_isRest_0 Q b s x1 := by
  refine JW.iconst dX3_isRest_0 rfl ?_
  refine JW.istore_n (ls' := [(0, vR 351), (1, vI x1), (2, vI (-1))]) dX3_isRest_1 (Nat.le_of_ble_eq_true rfl) rfl ?_
  refine JW.iconst dX3_isRest_2 rfl ?_
  refine JW.istore_n (ls' := [(0, vR 351), (1, vI x1), (2, vI (-1)), (3, vI 0)]) dX3_isRest_3 (Nat.le_of_ble_eq_true rfl) rfl ?_
  exact JW.pick [0, 1, 2, 3] rfl K
theorem bX3_isRest_4 {Q : Option AV → MS → Prop} (b : AH) (s : MS) (x1 : Int) (x2 : Int) (x3 : Int) (K : ((s.2 6 2) ≤ x3 → Q (some (vI 1)) s) ∧ (¬ (s.2 6 2) ≤ x3 → (0 ≤ x3 ∧ x3 < 10000) ∧ ((¬ (s.2 18 x3) = 0 → (x2 = (-1) → x1 ≠ 0 ∧ (HX3_isRest_4 Q b s x1 (i32 (Int.tmod x3 x1)) (i32 (x3 + 1)))) ∧ (¬ x2 = (-1) → x1 ≠ 0 ∧ ((x2 = (i32 (Int.tmod x3 x1)) → HX3_isRest_4 Q b s x1 (i32 (Int.tmod x3 x1)) (i32 (x3 + 1))) ∧ (¬ x2 = (i32 (Int.tmod x3 x1)) → Q (some (vI 0)) s)))) ∧ ((s.2 18 x3) = 0 → HX3_isRest_4 Q b s x1 x2 (i32 (x3 + 1)))))) : HX3_isRest_4 Q b s x1 x2 x3 := by
  refine JW.iload_n dX3_isRest_4 rfl ?_
  refine JW.aload_n dX3_isRest_5 rfl ?_
  refine JW.mget (v := vR 358) dX3_isRest_6 fX3_34 rfl ?_
  refine JW.iconst dX3_isRest_9 rfl ?_
  refine JW.mald 6 (x := (s.2 6 2)) dX3_isRest_10 (Nat.le_of_ble_eq_true rfl) rfl (by decide) (by decide) rfl ?_
  refine JW.icmp_ge (tgt := 50) dX3_isRest_11 rfl (fun c_1 => ?_) (fun c_1 => ?_)
  · have K := K.1 c_1
    refine JW.iconst dX3_isRest_50 rfl ?_
    exact JW.zreturn dX3_isRest_51 rfl (Or.inr rfl) ⟨_, rfl, K⟩
  · have K := K.2 c_1
    refine JW.aload_n dX3_isRest_14 rfl ?_
    refine JW.mget (v := vR 370) dX3_isRest_15 fX3_71 rfl ?_
    refine JW.iload_n dX3_isRest_18 rfl ?_
    obtain ⟨o_2, K⟩ := K
    refine JW.mzld 18 (x := (s.2 18 x3)) dX3_isRest_19 (Nat.le_of_ble_eq_true rfl) rfl o_2.1 o_2.2 rfl ?_
    refine JW.if_ne (tgt := 26) dX3_isRest_20 rfl (fun c_3 => ?_) (fun c_3 => ?_)
    · have K := K.1 c_3
      refine JW.iload_n dX3_isRest_26 rfl ?_
      refine JW.iconst dX3_isRest_27 rfl ?_
      refine JW.icmp_eq (tgt := 40) dX3_isRest_28 rfl (fun c_4 => ?_) (fun c_4 => ?_)
      · have K := K.1 c_4
        refine JW.iload_n dX3_isRest_40 rfl ?_
        refine JW.iload_n dX3_isRest_41 rfl ?_
        obtain ⟨o_5, K⟩ := K
        refine JW.irem dX3_isRest_42 o_5 ?_
        refine JW.istore_n (ls' := [(0, vR 351), (1, vI x1), (2, vI (i32 (Int.tmod x3 x1))), (3, vI x3)]) dX3_isRest_43 (Nat.le_of_ble_eq_true rfl) rfl ?_
        refine JW.iinc (ls' := [(0, vR 351), (1, vI x1), (2, vI (i32 (Int.tmod x3 x1))), (3, vI (i32 (x3 + 1)))]) dX3_isRest_44 (Nat.le_of_ble_eq_true rfl) rfl rfl ?_
        refine JW.goto (tgt := 4) dX3_isRest_47 rfl ?_
        exact JW.pick [0, 1, 2, 3] rfl K
      · have K := K.2 c_4
        refine JW.iload_n dX3_isRest_31 rfl ?_
        refine JW.iload_n dX3_isRest_32 rfl ?_
        refine JW.iload_n dX3_isRest_33 rfl ?_
        obtain ⟨o_6, K⟩ := K
        refine JW.irem dX3_isRest_34 o_6 ?_
        refine JW.icmp_eq (tgt := 40) dX3_isRest_35 rfl (fun c_7 => ?_) (fun c_7 => ?_)
        · have K := K.1 c_7
          refine JW.iload_n dX3_isRest_40 rfl ?_
          refine JW.iload_n dX3_isRest_41 rfl ?_
          refine JW.irem dX3_isRest_42 o_6 ?_
          refine JW.istore_n (ls' := [(0, vR 351), (1, vI x1), (2, vI (i32 (Int.tmod x3 x1))), (3, vI x3)]) dX3_isRest_43 (Nat.le_of_ble_eq_true rfl) rfl ?_
          refine JW.iinc (ls' := [(0, vR 351), (1, vI x1), (2, vI (i32 (Int.tmod x3 x1))), (3, vI (i32 (x3 + 1)))]) dX3_isRest_44 (Nat.le_of_ble_eq_true rfl) rfl rfl ?_
          refine JW.goto (tgt := 4) dX3_isRest_47 rfl ?_
          exact JW.pick [0, 1, 2, 3] rfl K
        · have K := K.2 c_7
          refine JW.iconst dX3_isRest_38 rfl ?_
          exact JW.zreturn dX3_isRest_39 rfl (Or.inl rfl) ⟨_, rfl, K⟩
    · have K := K.2 c_3
      refine JW.goto (tgt := 44) dX3_isRest_23 rfl ?_
      refine JW.iinc (ls' := [(0, vR 351), (1, vI x1), (2, vI x2), (3, vI (i32 (x3 + 1)))]) dX3_isRest_44 (Nat.le_of_ble_eq_true rfl) rfl rfl ?_
      refine JW.goto (tgt := 4) dX3_isRest_47 rfl ?_
      exact JW.pick [0, 1, 2, 3] rfl K
def QX3_isRest (s : MS) (a1 : Int) : Option AV → MS → Prop := fun v s' => v = some (vI (bC (isR (ofB (s.2 18) ((s.2 6) 2)) a1))) ∧ s' = s
theorem vX3_isRest_1 (s : MS) (a1 : Int) (hp : tOK (s.2 6) ∧ (2 ≤ a1 ∧ a1 ≤ 99) ∧ ∀ z : Int, 0 ≤ z → z < (s.2 6) 2 → (s.2 18) z = 0 ∨ (s.2 18) z = 1) (x1 : Int) (x2 : Int) (x3 : Int) (hI : x1 = a1 ∧ (0 ≤ x3 ∧ x3 ≤ s.2 6 2) ∧ SA (ofB (s.2 18) (s.2 6 2)) (fun z => z % a1) x3 x2) (c_1 : (s.2 6 2) ≤ x3) : 1 = (bC (isR (ofB (s.2 18) ((s.2 6) 2)) a1)) := by
  obtain ⟨ht, hi, hb⟩ := hp
  have hN := tOK_N ht
  (try have h01 := hb x3 (by omega) (by omega))
  (try have hm := i32_m (k := x3) (L := a1) (by omega) (by omega) (by omega))
  (try rw [hI.1] at *)
  (try rw [hm.1] at c_7)
  (try rw [hm.1])
  (try unfold lex3)
  (try simp only [bI_0, bI_n, Classical.not_not] at *)
  (try simp (disch := omega) only [i32_id] at *)
  first | done | omega | ((repeat' (with_reducible apply And.intro)) <;> first | assumption | rfl | omega | (exact (bC_t (SA_good hI.2.2 (fun z q => by have := q.1; omega))).symm) | (exact (bC_f (fun h => h (SA_bad2 hI.2.2 ⟨⟨by omega, by omega⟩, by omega⟩ (by assumption) (by assumption)))).symm) | (exact SA_n hI.2.2 (fun q => by have := q.2; omega)) | (exact SA_y hI.2.2 hI.2.1.1 ⟨⟨by omega, by omega⟩, by omega⟩ (by show _ % _ ≠ _; omega) (by show _ ∨ _ = _ % _; omega)) | (exact SA_0 _ _) | grind [upI])
theorem vX3_isRest_2 (s : MS) (a1 : Int) (hp : tOK (s.2 6) ∧ (2 ≤ a1 ∧ a1 ≤ 99) ∧ ∀ z : Int, 0 ≤ z → z < (s.2 6) 2 → (s.2 18) z = 0 ∨ (s.2 18) z = 1) (x1 : Int) (x2 : Int) (x3 : Int) (hI : x1 = a1 ∧ (0 ≤ x3 ∧ x3 ≤ s.2 6 2) ∧ SA (ofB (s.2 18) (s.2 6 2)) (fun z => z % a1) x3 x2) (c_1 : ¬ (s.2 6 2) ≤ x3) : (0 ≤ x3 ∧ x3 < 10000) := by
  obtain ⟨ht, hi, hb⟩ := hp
  have hN := tOK_N ht
  (try have h01 := hb x3 (by omega) (by omega))
  (try have hm := i32_m (k := x3) (L := a1) (by omega) (by omega) (by omega))
  (try rw [hI.1] at *)
  (try rw [hm.1] at c_7)
  (try rw [hm.1])
  (try unfold lex3)
  (try simp only [bI_0, bI_n, Classical.not_not] at *)
  (try simp (disch := omega) only [i32_id] at *)
  first | done | omega | ((repeat' (with_reducible apply And.intro)) <;> first | assumption | rfl | omega | (exact (bC_t (SA_good hI.2.2 (fun z q => by have := q.1; omega))).symm) | (exact (bC_f (fun h => h (SA_bad2 hI.2.2 ⟨⟨by omega, by omega⟩, by omega⟩ (by assumption) (by assumption)))).symm) | (exact SA_n hI.2.2 (fun q => by have := q.2; omega)) | (exact SA_y hI.2.2 hI.2.1.1 ⟨⟨by omega, by omega⟩, by omega⟩ (by show _ % _ ≠ _; omega) (by show _ ∨ _ = _ % _; omega)) | (exact SA_0 _ _) | grind [upI])
theorem vX3_isRest_3 (s : MS) (a1 : Int) (hp : tOK (s.2 6) ∧ (2 ≤ a1 ∧ a1 ≤ 99) ∧ ∀ z : Int, 0 ≤ z → z < (s.2 6) 2 → (s.2 18) z = 0 ∨ (s.2 18) z = 1) (x1 : Int) (x2 : Int) (x3 : Int) (hI : x1 = a1 ∧ (0 ≤ x3 ∧ x3 ≤ s.2 6 2) ∧ SA (ofB (s.2 18) (s.2 6 2)) (fun z => z % a1) x3 x2) (c_1 : ¬ (s.2 6 2) ≤ x3) (o_2 : (0 ≤ x3 ∧ x3 < 10000)) (c_3 : ¬ (s.2 18 x3) = 0) (c_4 : x2 = (-1)) : x1 ≠ 0 := by
  obtain ⟨ht, hi, hb⟩ := hp
  have hN := tOK_N ht
  (try have h01 := hb x3 (by omega) (by omega))
  (try have hm := i32_m (k := x3) (L := a1) (by omega) (by omega) (by omega))
  (try rw [hI.1] at *)
  (try rw [hm.1] at c_7)
  (try rw [hm.1])
  (try unfold lex3)
  (try simp only [bI_0, bI_n, Classical.not_not] at *)
  (try simp (disch := omega) only [i32_id] at *)
  first | done | omega | ((repeat' (with_reducible apply And.intro)) <;> first | assumption | rfl | omega | (exact (bC_t (SA_good hI.2.2 (fun z q => by have := q.1; omega))).symm) | (exact (bC_f (fun h => h (SA_bad2 hI.2.2 ⟨⟨by omega, by omega⟩, by omega⟩ (by assumption) (by assumption)))).symm) | (exact SA_n hI.2.2 (fun q => by have := q.2; omega)) | (exact SA_y hI.2.2 hI.2.1.1 ⟨⟨by omega, by omega⟩, by omega⟩ (by show _ % _ ≠ _; omega) (by show _ ∨ _ = _ % _; omega)) | (exact SA_0 _ _) | grind [upI])
theorem vX3_isRest_4 (s : MS) (a1 : Int) (hp : tOK (s.2 6) ∧ (2 ≤ a1 ∧ a1 ≤ 99) ∧ ∀ z : Int, 0 ≤ z → z < (s.2 6) 2 → (s.2 18) z = 0 ∨ (s.2 18) z = 1) (x1 : Int) (x2 : Int) (x3 : Int) (hI : x1 = a1 ∧ (0 ≤ x3 ∧ x3 ≤ s.2 6 2) ∧ SA (ofB (s.2 18) (s.2 6 2)) (fun z => z % a1) x3 x2) (c_1 : ¬ (s.2 6 2) ≤ x3) (o_2 : (0 ≤ x3 ∧ x3 < 10000)) (c_3 : ¬ (s.2 18 x3) = 0) (c_4 : x2 = (-1)) (o_5 : x1 ≠ 0) : x1 = a1 ∧ (0 ≤ (i32 (x3 + 1)) ∧ (i32 (x3 + 1)) ≤ s.2 6 2) ∧ SA (ofB (s.2 18) (s.2 6 2)) (fun z => z % a1) (i32 (x3 + 1)) (i32 (Int.tmod x3 x1)) := by
  obtain ⟨ht, hi, hb⟩ := hp
  have hN := tOK_N ht
  (try have h01 := hb x3 (by omega) (by omega))
  (try have hm := i32_m (k := x3) (L := a1) (by omega) (by omega) (by omega))
  (try rw [hI.1] at *)
  (try rw [hm.1] at c_7)
  (try rw [hm.1])
  (try unfold lex3)
  (try simp only [bI_0, bI_n, Classical.not_not] at *)
  (try simp (disch := omega) only [i32_id] at *)
  first | done | omega | ((repeat' (with_reducible apply And.intro)) <;> first | assumption | rfl | omega | (exact (bC_t (SA_good hI.2.2 (fun z q => by have := q.1; omega))).symm) | (exact (bC_f (fun h => h (SA_bad2 hI.2.2 ⟨⟨by omega, by omega⟩, by omega⟩ (by assumption) (by assumption)))).symm) | (exact SA_n hI.2.2 (fun q => by have := q.2; omega)) | (exact SA_y hI.2.2 hI.2.1.1 ⟨⟨by omega, by omega⟩, by omega⟩ (by show _ % _ ≠ _; omega) (by show _ ∨ _ = _ % _; omega)) | (exact SA_0 _ _) | grind [upI])
theorem vX3_isRest_5 (s : MS) (a1 : Int) (hp : tOK (s.2 6) ∧ (2 ≤ a1 ∧ a1 ≤ 99) ∧ ∀ z : Int, 0 ≤ z → z < (s.2 6) 2 → (s.2 18) z = 0 ∨ (s.2 18) z = 1) (x1 : Int) (x2 : Int) (x3 : Int) (hI : x1 = a1 ∧ (0 ≤ x3 ∧ x3 ≤ s.2 6 2) ∧ SA (ofB (s.2 18) (s.2 6 2)) (fun z => z % a1) x3 x2) (c_1 : ¬ (s.2 6 2) ≤ x3) (o_2 : (0 ≤ x3 ∧ x3 < 10000)) (c_3 : ¬ (s.2 18 x3) = 0) (c_4 : x2 = (-1)) (o_5 : x1 ≠ 0) : lex3 0 0 ((s.2 6 2 - (i32 (x3 + 1))).toNat) 0 0 ((s.2 6 2 - x3).toNat) := by
  obtain ⟨ht, hi, hb⟩ := hp
  have hN := tOK_N ht
  (try have h01 := hb x3 (by omega) (by omega))
  (try have hm := i32_m (k := x3) (L := a1) (by omega) (by omega) (by omega))
  (try rw [hI.1] at *)
  (try rw [hm.1] at c_7)
  (try rw [hm.1])
  (try unfold lex3)
  (try simp only [bI_0, bI_n, Classical.not_not] at *)
  (try simp (disch := omega) only [i32_id] at *)
  first | done | omega | ((repeat' (with_reducible apply And.intro)) <;> first | assumption | rfl | omega | (exact (bC_t (SA_good hI.2.2 (fun z q => by have := q.1; omega))).symm) | (exact (bC_f (fun h => h (SA_bad2 hI.2.2 ⟨⟨by omega, by omega⟩, by omega⟩ (by assumption) (by assumption)))).symm) | (exact SA_n hI.2.2 (fun q => by have := q.2; omega)) | (exact SA_y hI.2.2 hI.2.1.1 ⟨⟨by omega, by omega⟩, by omega⟩ (by show _ % _ ≠ _; omega) (by show _ ∨ _ = _ % _; omega)) | (exact SA_0 _ _) | grind [upI])
theorem vX3_isRest_6 (s : MS) (a1 : Int) (hp : tOK (s.2 6) ∧ (2 ≤ a1 ∧ a1 ≤ 99) ∧ ∀ z : Int, 0 ≤ z → z < (s.2 6) 2 → (s.2 18) z = 0 ∨ (s.2 18) z = 1) (x1 : Int) (x2 : Int) (x3 : Int) (hI : x1 = a1 ∧ (0 ≤ x3 ∧ x3 ≤ s.2 6 2) ∧ SA (ofB (s.2 18) (s.2 6 2)) (fun z => z % a1) x3 x2) (c_1 : ¬ (s.2 6 2) ≤ x3) (o_2 : (0 ≤ x3 ∧ x3 < 10000)) (c_3 : ¬ (s.2 18 x3) = 0) (c_4 : ¬ x2 = (-1)) : x1 ≠ 0 := by
  obtain ⟨ht, hi, hb⟩ := hp
  have hN := tOK_N ht
  (try have h01 := hb x3 (by omega) (by omega))
  (try have hm := i32_m (k := x3) (L := a1) (by omega) (by omega) (by omega))
  (try rw [hI.1] at *)
  (try rw [hm.1] at c_7)
  (try rw [hm.1])
  (try unfold lex3)
  (try simp only [bI_0, bI_n, Classical.not_not] at *)
  (try simp (disch := omega) only [i32_id] at *)
  first | done | omega | ((repeat' (with_reducible apply And.intro)) <;> first | assumption | rfl | omega | (exact (bC_t (SA_good hI.2.2 (fun z q => by have := q.1; omega))).symm) | (exact (bC_f (fun h => h (SA_bad2 hI.2.2 ⟨⟨by omega, by omega⟩, by omega⟩ (by assumption) (by assumption)))).symm) | (exact SA_n hI.2.2 (fun q => by have := q.2; omega)) | (exact SA_y hI.2.2 hI.2.1.1 ⟨⟨by omega, by omega⟩, by omega⟩ (by show _ % _ ≠ _; omega) (by show _ ∨ _ = _ % _; omega)) | (exact SA_0 _ _) | grind [upI])
theorem vX3_isRest_7 (s : MS) (a1 : Int) (hp : tOK (s.2 6) ∧ (2 ≤ a1 ∧ a1 ≤ 99) ∧ ∀ z : Int, 0 ≤ z → z < (s.2 6) 2 → (s.2 18) z = 0 ∨ (s.2 18) z = 1) (x1 : Int) (x2 : Int) (x3 : Int) (hI : x1 = a1 ∧ (0 ≤ x3 ∧ x3 ≤ s.2 6 2) ∧ SA (ofB (s.2 18) (s.2 6 2)) (fun z => z % a1) x3 x2) (c_1 : ¬ (s.2 6 2) ≤ x3) (o_2 : (0 ≤ x3 ∧ x3 < 10000)) (c_3 : ¬ (s.2 18 x3) = 0) (c_4 : ¬ x2 = (-1)) (o_6 : x1 ≠ 0) (c_7 : x2 = (i32 (Int.tmod x3 x1))) : x1 = a1 ∧ (0 ≤ (i32 (x3 + 1)) ∧ (i32 (x3 + 1)) ≤ s.2 6 2) ∧ SA (ofB (s.2 18) (s.2 6 2)) (fun z => z % a1) (i32 (x3 + 1)) (i32 (Int.tmod x3 x1)) := by
  obtain ⟨ht, hi, hb⟩ := hp
  have hN := tOK_N ht
  (try have h01 := hb x3 (by omega) (by omega))
  (try have hm := i32_m (k := x3) (L := a1) (by omega) (by omega) (by omega))
  (try rw [hI.1] at *)
  (try rw [hm.1] at c_7)
  (try rw [hm.1])
  (try unfold lex3)
  (try simp only [bI_0, bI_n, Classical.not_not] at *)
  (try simp (disch := omega) only [i32_id] at *)
  first | done | omega | ((repeat' (with_reducible apply And.intro)) <;> first | assumption | rfl | omega | (exact (bC_t (SA_good hI.2.2 (fun z q => by have := q.1; omega))).symm) | (exact (bC_f (fun h => h (SA_bad2 hI.2.2 ⟨⟨by omega, by omega⟩, by omega⟩ (by assumption) (by assumption)))).symm) | (exact SA_n hI.2.2 (fun q => by have := q.2; omega)) | (exact SA_y hI.2.2 hI.2.1.1 ⟨⟨by omega, by omega⟩, by omega⟩ (by show _ % _ ≠ _; omega) (by show _ ∨ _ = _ % _; omega)) | (exact SA_0 _ _) | grind [upI])
theorem vX3_isRest_8 (s : MS) (a1 : Int) (hp : tOK (s.2 6) ∧ (2 ≤ a1 ∧ a1 ≤ 99) ∧ ∀ z : Int, 0 ≤ z → z < (s.2 6) 2 → (s.2 18) z = 0 ∨ (s.2 18) z = 1) (x1 : Int) (x2 : Int) (x3 : Int) (hI : x1 = a1 ∧ (0 ≤ x3 ∧ x3 ≤ s.2 6 2) ∧ SA (ofB (s.2 18) (s.2 6 2)) (fun z => z % a1) x3 x2) (c_1 : ¬ (s.2 6 2) ≤ x3) (o_2 : (0 ≤ x3 ∧ x3 < 10000)) (c_3 : ¬ (s.2 18 x3) = 0) (c_4 : ¬ x2 = (-1)) (o_6 : x1 ≠ 0) (c_7 : x2 = (i32 (Int.tmod x3 x1))) : lex3 0 0 ((s.2 6 2 - (i32 (x3 + 1))).toNat) 0 0 ((s.2 6 2 - x3).toNat) := by
  obtain ⟨ht, hi, hb⟩ := hp
  have hN := tOK_N ht
  (try have h01 := hb x3 (by omega) (by omega))
  (try have hm := i32_m (k := x3) (L := a1) (by omega) (by omega) (by omega))
  (try rw [hI.1] at *)
  (try rw [hm.1] at c_7)
  (try rw [hm.1])
  (try unfold lex3)
  (try simp only [bI_0, bI_n, Classical.not_not] at *)
  (try simp (disch := omega) only [i32_id] at *)
  first | done | omega | ((repeat' (with_reducible apply And.intro)) <;> first | assumption | rfl | omega | (exact (bC_t (SA_good hI.2.2 (fun z q => by have := q.1; omega))).symm) | (exact (bC_f (fun h => h (SA_bad2 hI.2.2 ⟨⟨by omega, by omega⟩, by omega⟩ (by assumption) (by assumption)))).symm) | (exact SA_n hI.2.2 (fun q => by have := q.2; omega)) | (exact SA_y hI.2.2 hI.2.1.1 ⟨⟨by omega, by omega⟩, by omega⟩ (by show _ % _ ≠ _; omega) (by show _ ∨ _ = _ % _; omega)) | (exact SA_0 _ _) | grind [upI])
theorem vX3_isRest_9 (s : MS) (a1 : Int) (hp : tOK (s.2 6) ∧ (2 ≤ a1 ∧ a1 ≤ 99) ∧ ∀ z : Int, 0 ≤ z → z < (s.2 6) 2 → (s.2 18) z = 0 ∨ (s.2 18) z = 1) (x1 : Int) (x2 : Int) (x3 : Int) (hI : x1 = a1 ∧ (0 ≤ x3 ∧ x3 ≤ s.2 6 2) ∧ SA (ofB (s.2 18) (s.2 6 2)) (fun z => z % a1) x3 x2) (c_1 : ¬ (s.2 6 2) ≤ x3) (o_2 : (0 ≤ x3 ∧ x3 < 10000)) (c_3 : ¬ (s.2 18 x3) = 0) (c_4 : ¬ x2 = (-1)) (o_6 : x1 ≠ 0) (c_7 : ¬ x2 = (i32 (Int.tmod x3 x1))) : 0 = (bC (isR (ofB (s.2 18) ((s.2 6) 2)) a1)) := by
  obtain ⟨ht, hi, hb⟩ := hp
  have hN := tOK_N ht
  (try have h01 := hb x3 (by omega) (by omega))
  (try have hm := i32_m (k := x3) (L := a1) (by omega) (by omega) (by omega))
  (try rw [hI.1] at *)
  (try rw [hm.1] at c_7)
  (try rw [hm.1])
  (try unfold lex3)
  (try simp only [bI_0, bI_n, Classical.not_not] at *)
  (try simp (disch := omega) only [i32_id] at *)
  first | done | omega | ((repeat' (with_reducible apply And.intro)) <;> first | assumption | rfl | omega | (exact (bC_t (SA_good hI.2.2 (fun z q => by have := q.1; omega))).symm) | (exact (bC_f (fun h => h (SA_bad2 hI.2.2 ⟨⟨by omega, by omega⟩, by omega⟩ (by assumption) (by assumption)))).symm) | (exact SA_n hI.2.2 (fun q => by have := q.2; omega)) | (exact SA_y hI.2.2 hI.2.1.1 ⟨⟨by omega, by omega⟩, by omega⟩ (by show _ % _ ≠ _; omega) (by show _ ∨ _ = _ % _; omega)) | (exact SA_0 _ _) | grind [upI])
theorem vX3_isRest_10 (s : MS) (a1 : Int) (hp : tOK (s.2 6) ∧ (2 ≤ a1 ∧ a1 ≤ 99) ∧ ∀ z : Int, 0 ≤ z → z < (s.2 6) 2 → (s.2 18) z = 0 ∨ (s.2 18) z = 1) (x1 : Int) (x2 : Int) (x3 : Int) (hI : x1 = a1 ∧ (0 ≤ x3 ∧ x3 ≤ s.2 6 2) ∧ SA (ofB (s.2 18) (s.2 6 2)) (fun z => z % a1) x3 x2) (c_1 : ¬ (s.2 6 2) ≤ x3) (o_2 : (0 ≤ x3 ∧ x3 < 10000)) (c_3 : (s.2 18 x3) = 0) : x1 = a1 ∧ (0 ≤ (i32 (x3 + 1)) ∧ (i32 (x3 + 1)) ≤ s.2 6 2) ∧ SA (ofB (s.2 18) (s.2 6 2)) (fun z => z % a1) (i32 (x3 + 1)) x2 := by
  obtain ⟨ht, hi, hb⟩ := hp
  have hN := tOK_N ht
  (try have h01 := hb x3 (by omega) (by omega))
  (try have hm := i32_m (k := x3) (L := a1) (by omega) (by omega) (by omega))
  (try rw [hI.1] at *)
  (try rw [hm.1] at c_7)
  (try rw [hm.1])
  (try unfold lex3)
  (try simp only [bI_0, bI_n, Classical.not_not] at *)
  (try simp (disch := omega) only [i32_id] at *)
  first | done | omega | ((repeat' (with_reducible apply And.intro)) <;> first | assumption | rfl | omega | (exact (bC_t (SA_good hI.2.2 (fun z q => by have := q.1; omega))).symm) | (exact (bC_f (fun h => h (SA_bad2 hI.2.2 ⟨⟨by omega, by omega⟩, by omega⟩ (by assumption) (by assumption)))).symm) | (exact SA_n hI.2.2 (fun q => by have := q.2; omega)) | (exact SA_y hI.2.2 hI.2.1.1 ⟨⟨by omega, by omega⟩, by omega⟩ (by show _ % _ ≠ _; omega) (by show _ ∨ _ = _ % _; omega)) | (exact SA_0 _ _) | grind [upI])
theorem vX3_isRest_11 (s : MS) (a1 : Int) (hp : tOK (s.2 6) ∧ (2 ≤ a1 ∧ a1 ≤ 99) ∧ ∀ z : Int, 0 ≤ z → z < (s.2 6) 2 → (s.2 18) z = 0 ∨ (s.2 18) z = 1) (x1 : Int) (x2 : Int) (x3 : Int) (hI : x1 = a1 ∧ (0 ≤ x3 ∧ x3 ≤ s.2 6 2) ∧ SA (ofB (s.2 18) (s.2 6 2)) (fun z => z % a1) x3 x2) (c_1 : ¬ (s.2 6 2) ≤ x3) (o_2 : (0 ≤ x3 ∧ x3 < 10000)) (c_3 : (s.2 18 x3) = 0) : lex3 0 0 ((s.2 6 2 - (i32 (x3 + 1))).toNat) 0 0 ((s.2 6 2 - x3).toNat) := by
  obtain ⟨ht, hi, hb⟩ := hp
  have hN := tOK_N ht
  (try have h01 := hb x3 (by omega) (by omega))
  (try have hm := i32_m (k := x3) (L := a1) (by omega) (by omega) (by omega))
  (try rw [hI.1] at *)
  (try rw [hm.1] at c_7)
  (try rw [hm.1])
  (try unfold lex3)
  (try simp only [bI_0, bI_n, Classical.not_not] at *)
  (try simp (disch := omega) only [i32_id] at *)
  first | done | omega | ((repeat' (with_reducible apply And.intro)) <;> first | assumption | rfl | omega | (exact (bC_t (SA_good hI.2.2 (fun z q => by have := q.1; omega))).symm) | (exact (bC_f (fun h => h (SA_bad2 hI.2.2 ⟨⟨by omega, by omega⟩, by omega⟩ (by assumption) (by assumption)))).symm) | (exact SA_n hI.2.2 (fun q => by have := q.2; omega)) | (exact SA_y hI.2.2 hI.2.1.1 ⟨⟨by omega, by omega⟩, by omega⟩ (by show _ % _ ≠ _; omega) (by show _ ∨ _ = _ % _; omega)) | (exact SA_0 _ _) | grind [upI])
theorem vX3_isRest_12 (s : MS) (a1 : Int) (hp : tOK (s.2 6) ∧ (2 ≤ a1 ∧ a1 ≤ 99) ∧ ∀ z : Int, 0 ≤ z → z < (s.2 6) 2 → (s.2 18) z = 0 ∨ (s.2 18) z = 1) : a1 = a1 ∧ (0 ≤ (0 : Int) ∧ (0 : Int) ≤ s.2 6 2) ∧ SA (ofB (s.2 18) (s.2 6 2)) (fun z => z % a1) (0 : Int) ((-1) : Int) := by
  obtain ⟨ht, hi, hb⟩ := hp
  have hN := tOK_N ht
  (try have h01 := hb x3 (by omega) (by omega))
  (try have hm := i32_m (k := x3) (L := a1) (by omega) (by omega) (by omega))
  (try rw [hI.1] at *)
  (try rw [hm.1] at c_7)
  (try rw [hm.1])
  (try unfold lex3)
  (try simp only [bI_0, bI_n, Classical.not_not] at *)
  (try simp (disch := omega) only [i32_id] at *)
  first | done | omega | ((repeat' (with_reducible apply And.intro)) <;> first | assumption | rfl | omega | (exact (bC_t (SA_good hI.2.2 (fun z q => by have := q.1; omega))).symm) | (exact (bC_f (fun h => h (SA_bad2 hI.2.2 ⟨⟨by omega, by omega⟩, by omega⟩ (by assumption) (by assumption)))).symm) | (exact SA_n hI.2.2 (fun q => by have := q.2; omega)) | (exact SA_y hI.2.2 hI.2.1.1 ⟨⟨by omega, by omega⟩, by omega⟩ (by show _ % _ ≠ _; omega) (by show _ ∨ _ = _ % _; omega)) | (exact SA_0 _ _) | grind [upI])
theorem allX3_isRest (b : AH) (s : MS) (a1 : Int) (hp : tOK (s.2 6) ∧ (2 ≤ a1 ∧ a1 ≤ 99) ∧ ∀ z : Int, 0 ≤ z → z < (s.2 6) 2 → (s.2 18) z = 0 ∨ (s.2 18) z = 1) : ∀ m1 m2 m3 : Nat, (∀ (x1 : Int) (x2 : Int) (x3 : Int), m1 = 0 → m2 = 0 → m3 = ((s.2 6 2 - x3).toNat) → (x1 = a1 ∧ (0 ≤ x3 ∧ x3 ≤ s.2 6 2) ∧ SA (ofB (s.2 18) (s.2 6 2)) (fun z => z % a1) x3 x2) → HX3_isRest_4 (QX3_isRest s a1) b s x1 x2 x3) := by
  refine lex3_ind ?_
  intro m1 m2 m3 ih
  rintro x1 x2 x3 rfl rfl rfl hI
  refine bX3_isRest_4 b s x1 x2 x3 ?_
  refine ⟨fun c_1 => ?_, fun c_1 => ?_⟩
  · exact ⟨(rI_c (vX3_isRest_1 s a1 hp x1 x2 x3 hI c_1)), rfl⟩
  · have o_2 : (0 ≤ x3 ∧ x3 < 10000) := (vX3_isRest_2 s a1 hp x1 x2 x3 hI c_1)
    refine ⟨o_2, ?_⟩
    refine ⟨fun c_3 => ?_, fun c_3 => ?_⟩
    · refine ⟨fun c_4 => ?_, fun c_4 => ?_⟩
      · have o_5 : x1 ≠ 0 := (vX3_isRest_3 s a1 hp x1 x2 x3 hI c_1 o_2 c_3 c_4)
        refine ⟨o_5, ?_⟩
        exact (ih _ _ _ (vX3_isRest_5 s a1 hp x1 x2 x3 hI c_1 o_2 c_3 c_4 o_5)) x1 (i32 (Int.tmod x3 x1)) (i32 (x3 + 1)) rfl rfl rfl (vX3_isRest_4 s a1 hp x1 x2 x3 hI c_1 o_2 c_3 c_4 o_5)
      · have o_6 : x1 ≠ 0 := (vX3_isRest_6 s a1 hp x1 x2 x3 hI c_1 o_2 c_3 c_4)
        refine ⟨o_6, ?_⟩
        refine ⟨fun c_7 => ?_, fun c_7 => ?_⟩
        · exact (ih _ _ _ (vX3_isRest_8 s a1 hp x1 x2 x3 hI c_1 o_2 c_3 c_4 o_6 c_7)) x1 (i32 (Int.tmod x3 x1)) (i32 (x3 + 1)) rfl rfl rfl (vX3_isRest_7 s a1 hp x1 x2 x3 hI c_1 o_2 c_3 c_4 o_6 c_7)
        · exact ⟨(rI_c (vX3_isRest_9 s a1 hp x1 x2 x3 hI c_1 o_2 c_3 c_4 o_6 c_7)), rfl⟩
    · exact (ih _ _ _ (vX3_isRest_11 s a1 hp x1 x2 x3 hI c_1 o_2 c_3)) x1 x2 (i32 (x3 + 1)) rfl rfl rfl (vX3_isRest_10 s a1 hp x1 x2 x3 hI c_1 o_2 c_3)
theorem ctX3_isRest (b : AH) (s : MS) (a1 : Int) (hp : tOK (s.2 6) ∧ (2 ≤ a1 ∧ a1 ≤ 99) ∧ ∀ z : Int, 0 ≤ z → z < (s.2 6) 2 → (s.2 18) z = 0 ∨ (s.2 18) z = 1) : MC mX3_isRest 1 b s [vI a1] (QX3_isRest s a1) := by
  refine MC.of (by decide) rfl (Nat.le_of_ble_eq_true rfl) ?_
  refine bX3_isRest_0 b s a1 ?_
  exact (allX3_isRest b s a1 hp _ _ _) a1 (-1) 0 rfl rfl rfl (vX3_isRest_12 s a1 hp)
def HX3_rest_0 (Q : Option AV → MS → Prop) (b : AH) (s : MS) (x1 : Int) (x2 : Int) (f11 : Int → Int) (f12 : Int → Int) (f13 : Int → Int) (f14 : Int → Int) (f15 : Int → Int) (f16 : Int → Int) (f17 : Int → Int) (f18 : Int → Int) (f19 : Int → Int) (k0 : Int) (k25 : Int) (k33 : Int) (k34 : Int) : Prop := MW mX3_rest 9 Q b 0 [(0, vR 351), (1, vI x1), (2, vI x2)] [] (sS (sS (sS (sS (sA (sA (sA (sA (sA (sA (sA (sA (sA s 11 f11) 12 f12) 13 f13) 14 f14) 15 f15) 16 f16) 17 f17) 18 f18) 19 f19) 0 k0) 25 k25) 33 k33) 34 k34)
def HX3_rest_35 (Q : Option AV → MS → Prop) (b : AH) (s : MS) (x3 : Int) (f11 : Int → Int) (f12 : Int → Int) (f13 : Int → Int) (f14 : Int → Int) (f15 : Int → Int) (f16 : Int → Int) (f17 : Int → Int) (f18 : Int → Int) (f19 : Int → Int) (k0 : Int) (k25 : Int) (k33 : Int) (k34 : Int) : Prop := MW mX3_rest 9 Q b 35 [(0, vR 351), (3, vI x3)] [] (sS (sS (sS (sS (sA (sA (sA (sA (sA (sA (sA (sA (sA s 11 f11) 12 f12) 13 f13) 14 f14) 15 f15) 16 f16) 17 f17) 18 f18) 19 f19) 0 k0) 25 k25) 33 k33) 34 k34)
theorem bX3_rest_0 {Q : Option AV → MS → Prop} (b : AH) (s : MS) (x1 : Int) (x2 : Int) (f11 : Int → Int) (f12 : Int → Int) (f13 : Int → Int) (f14 : Int → Int) (f15 : Int → Int) (f16 : Int → Int) (f17 : Int → Int) (f18 : Int → Int) (f19 : Int → Int) (k0 : Int) (k25 : Int) (k33 : Int) (k34 : Int) (K : (¬ (bI (0 < (s.2 5) 0 ∧ (0 ≤ x1 ∧ x1 ≤ 3) ∧ 0 ≤ x2 ∧ x2 ≤ 200)) = 0 → (tOK (s.2 6) ∧ aOK (s.2 6) (s.2 7) ∧ (0 ≤ x1 ∧ x1 ≤ 3) ∧ 0 ≤ x2 ∧ x2 ≤ 200) ∧ ((∀ (f_4 : Int → Int) (f_5 : Int → Int) (f_6 : Int → Int) (f_7 : Int → Int) (f_8 : Int → Int) (k_9 : Int), (NXO (s.2 6) (s.2 7) f_6 ∧ BS f_7 ((s.2 6) 2) (crS (s.2 6) (s.2 7) (s.2 9) x1 (x2).toNat)) → (tOK (s.2 6) ∧ ∀ z : Int, 0 ≤ z → z < (s.2 6) 2 → f_7 z = 0 ∨ f_7 z = 1) ∧ ((¬ (many (fun z => f_7 z = 1) ((s.2 6) 2).toNat) = 0 → HX3_rest_35 Q b s 99 f_4 f_5 f_6 f14 f15 f16 f17 f_7 f_8 0 k_9 k33 k34) ∧ ((many (fun z => f_7 z = 1) ((s.2 6) 2).toNat) = 0 → Q (some (vI (-1))) (sS (sS (sS (sS (sA (sA (sA (sA (sA (sA (sA (sA (sA s 11 f_4) 12 f_5) 13 f_6) 14 f14) 15 f15) 16 f16) 17 f17) 18 f_7) 19 f_8) 0 0) 25 k_9) 33 k33) 34 k34)))))) ∧ ((bI (0 < (s.2 5) 0 ∧ (0 ≤ x1 ∧ x1 ≤ 3) ∧ 0 ≤ x2 ∧ x2 ≤ 200)) = 0 → Q (some (vI (-2))) (sS (sS (sS (sS (sA (sA (sA (sA (sA (sA (sA (sA (sA s 11 f11) 12 f12) 13 f13) 14 f14) 15 f15) 16 f16) 17 f17) 18 f18) 19 f19) 0 0) 25 k25) 33 k33) 34 k34))) : HX3_rest_0 Q b s x1 x2 f11 f12 f13 f14 f15 f16 f17 f18 f19 k0 k25 k33 k34 := by
  refine JW.aload_n dX3_rest_0 rfl ?_
  refine JW.iconst dX3_rest_1 rfl ?_
  refine JW.mputI dX3_rest_2 (pX3_77 _) rfl ?_
  refine JW.steq (s2 := sS (sS (sS (sS (sA (sA (sA (sA (sA (sA (sA (sA (sA s 11 f11) 12 f12) 13 f13) 14 f14) 15 f15) 16 f16) 17 f17) 18 f18) 19 f19) 0 0) 25 k25) 33 k33) 34 k34) (by simp only [sA_A, sS_S, sA_S, sA_lt, sS_lt, Nat.reduceLT, id_eq] <;> rfl) ?_
  refine JW.aload_n dX3_rest_5 rfl ?_
  refine JW.iload_n dX3_rest_6 rfl ?_
  refine JW.iload_n dX3_rest_7 rfl ?_
  refine JW.mcall (As := [vI x1, vI x2]) dX3_rest_8 vX3_isCrowd rfl q1985 (ctX3_isCrowd b (sS (sS (sS (sS (sA (sA (sA (sA (sA (sA (sA (sA (sA s 11 f11) 12 f12) 13 f13) 14 f14) 15 f15) 16 f16) 17 f17) 18 f18) 19 f19) 0 0) 25 k25) 33 k33) 34 k34) x1 x2) (Nat.le_of_ble_eq_true rfl) rfl (Nat.le_of_ble_eq_true rfl) ?_
  rintro _ _ ⟨rfl, eq_1⟩
  refine JW.steq (s2 := sS (sS (sS (sS (sA (sA (sA (sA (sA (sA (sA (sA (sA s 11 f11) 12 f12) 13 f13) 14 f14) 15 f15) 16 f16) 17 f17) 18 f18) 19 f19) 0 0) 25 k25) 33 k33) 34 k34) eq_1 ?_
  refine JW.if_ne (tgt := 17) dX3_rest_11 rfl (fun c_2 => ?_) (fun c_2 => ?_)
  · have K := K.1 c_2
    refine JW.aload_n dX3_rest_17 rfl ?_
    refine JW.iload_n dX3_rest_18 rfl ?_
    refine JW.iload_n dX3_rest_19 rfl ?_
    obtain ⟨o_3, K⟩ := K
    refine JW.mcall (As := [vI x1, vI x2]) dX3_rest_20 vX3_crowdsBehind rfl q1989 (ctX3_crowdsBehind b (sS (sS (sS (sS (sA (sA (sA (sA (sA (sA (sA (sA (sA s 11 f11) 12 f12) 13 f13) 14 f14) 15 f15) 16 f16) 17 f17) 18 f18) 19 f19) 0 0) 25 k25) 33 k33) 34 k34) x1 x2 o_3) (Nat.le_of_ble_eq_true rfl) rfl (Nat.le_of_ble_eq_true rfl) ?_
    rintro _ _ ⟨f_4, f_5, f_6, f_7, f_8, k_9, rfl, rfl, q_10⟩
    refine JW.steq (s2 := sS (sS (sS (sS (sA (sA (sA (sA (sA (sA (sA (sA (sA s 11 f_4) 12 f_5) 13 f_6) 14 f14) 15 f15) 16 f16) 17 f17) 18 f_7) 19 f_8) 0 0) 25 k_9) 33 k33) 34 k34) (by simp only [sA_A, sS_S, sA_S, sA_lt, sS_lt, Nat.reduceLT, id_eq] <;> rfl) ?_
    replace K := K f_4 f_5 f_6 f_7 f_8 k_9 q_10
    refine JW.aload_n dX3_rest_23 rfl ?_
    obtain ⟨o_11, K⟩ := K
    refine JW.mcall (As := []) dX3_rest_24 vX3_manyIn rfl q2021 (ctX3_manyIn b (sS (sS (sS (sS (sA (sA (sA (sA (sA (sA (sA (sA (sA s 11 f_4) 12 f_5) 13 f_6) 14 f14) 15 f15) 16 f16) 17 f17) 18 f_7) 19 f_8) 0 0) 25 k_9) 33 k33) 34 k34) o_11) (Nat.le_of_ble_eq_true rfl) rfl (Nat.le_of_ble_eq_true rfl) ?_
    rintro _ _ ⟨rfl, eq_12⟩
    refine JW.steq (s2 := sS (sS (sS (sS (sA (sA (sA (sA (sA (sA (sA (sA (sA s 11 f_4) 12 f_5) 13 f_6) 14 f14) 15 f15) 16 f16) 17 f17) 18 f_7) 19 f_8) 0 0) 25 k_9) 33 k33) 34 k34) eq_12 ?_
    refine JW.if_ne (tgt := 32) dX3_rest_27 rfl (fun c_13 => ?_) (fun c_13 => ?_)
    · have K := K.1 c_13
      refine JW.bipush dX3_rest_32 rfl ?_
      refine JW.istore_n (ls' := [(0, vR 351), (1, vI x1), (2, vI x2), (3, vI 99)]) dX3_rest_34 (Nat.le_of_ble_eq_true rfl) rfl ?_
      exact JW.pick [0, 3] rfl K
    · have K := K.2 c_13
      refine JW.iconst dX3_rest_30 rfl ?_
      exact JW.ireturn dX3_rest_31 rfl rfl ⟨_, rfl, K⟩
  · have K := K.2 c_2
    refine JW.bipush dX3_rest_14 rfl ?_
    exact JW.ireturn dX3_rest_16 rfl rfl ⟨_, rfl, K⟩
theorem bX3_rest_35 {Q : Option AV → MS → Prop} (b : AH) (s : MS) (x3 : Int) (f11 : Int → Int) (f12 : Int → Int) (f13 : Int → Int) (f14 : Int → Int) (f15 : Int → Int) (f16 : Int → Int) (f17 : Int → Int) (f18 : Int → Int) (f19 : Int → Int) (k0 : Int) (k25 : Int) (k33 : Int) (k34 : Int) (K : (x3 < 2 → Q (some (vI (-1))) (sS (sS (sS (sS (sA (sA (sA (sA (sA (sA (sA (sA (sA s 11 f11) 12 f12) 13 f13) 14 f14) 15 f15) 16 f16) 17 f17) 18 f18) 19 f19) 0 k0) 25 k25) 33 k33) 34 k34)) ∧ (¬ x3 < 2 → (tOK (s.2 6) ∧ (2 ≤ x3 ∧ x3 ≤ 99) ∧ ∀ z : Int, 0 ≤ z → z < (s.2 6) 2 → f18 z = 0 ∨ f18 z = 1) ∧ (((bC (isR (ofB f18 ((s.2 6) 2)) x3)) = 0 → HX3_rest_35 Q b s (i32 (x3 + (-1))) f11 f12 f13 f14 f15 f16 f17 f18 f19 k0 k25 k33 k34) ∧ (¬ (bC (isR (ofB f18 ((s.2 6) 2)) x3)) = 0 → Q (some (vI x3)) (sS (sS (sS (sS (sA (sA (sA (sA (sA (sA (sA (sA (sA s 11 f11) 12 f12) 13 f13) 14 f14) 15 f15) 16 f16) 17 f17) 18 f18) 19 f19) 0 k0) 25 k25) 33 k33) 34 k34))))) : HX3_rest_35 Q b s x3 f11 f12 f13 f14 f15 f16 f17 f18 f19 k0 k25 k33 k34 := by
  refine JW.iload_n dX3_rest_35 rfl ?_
  refine JW.iconst dX3_rest_36 rfl ?_
  refine JW.icmp_lt (tgt := 56) dX3_rest_37 rfl (fun c_1 => ?_) (fun c_1 => ?_)
  · have K := K.1 c_1
    refine JW.iconst dX3_rest_56 rfl ?_
    exact JW.ireturn dX3_rest_57 rfl rfl ⟨_, rfl, K⟩
  · have K := K.2 c_1
    refine JW.aload_n dX3_rest_40 rfl ?_
    refine JW.iload_n dX3_rest_41 rfl ?_
    obtain ⟨o_2, K⟩ := K
    refine JW.mcall (As := [vI x3]) dX3_rest_42 vX3_isRest rfl q2029 (ctX3_isRest b (sS (sS (sS (sS (sA (sA (sA (sA (sA (sA (sA (sA (sA s 11 f11) 12 f12) 13 f13) 14 f14) 15 f15) 16 f16) 17 f17) 18 f18) 19 f19) 0 k0) 25 k25) 33 k33) 34 k34) x3 o_2) (Nat.le_of_ble_eq_true rfl) rfl (Nat.le_of_ble_eq_true rfl) ?_
    rintro _ _ ⟨rfl, eq_3⟩
    refine JW.steq (s2 := sS (sS (sS (sS (sA (sA (sA (sA (sA (sA (sA (sA (sA s 11 f11) 12 f12) 13 f13) 14 f14) 15 f15) 16 f16) 17 f17) 18 f18) 19 f19) 0 k0) 25 k25) 33 k33) 34 k34) eq_3 ?_
    refine JW.if_eq (tgt := 50) dX3_rest_45 rfl (fun c_4 => ?_) (fun c_4 => ?_)
    · have K := K.1 c_4
      refine JW.iinc (ls' := [(0, vR 351), (3, vI (i32 (x3 + (-1))))]) dX3_rest_50 (Nat.le_of_ble_eq_true rfl) rfl rfl ?_
      refine JW.goto (tgt := 35) dX3_rest_53 rfl ?_
      exact JW.pick [0, 3] rfl K
    · have K := K.2 c_4
      refine JW.iload_n dX3_rest_48 rfl ?_
      exact JW.ireturn dX3_rest_49 rfl rfl ⟨_, rfl, K⟩
def QX3_rest (s : MS) (a1 : Int) (a2 : Int) : Option AV → MS → Prop := fun v s' => ∃ (f11 : Int → Int) (f12 : Int → Int) (f13 : Int → Int) (f14 : Int → Int) (f15 : Int → Int) (f16 : Int → Int) (f17 : Int → Int) (f18 : Int → Int) (f19 : Int → Int) (k25 : Int) (k33 : Int) (k34 : Int), v = some (vI (rRest ((s.2 5) 0) (s.2 6) (s.2 7) (s.2 9) a1 a2)) ∧ s' = sS (sS (sS (sS (sA (sA (sA (sA (sA (sA (sA (sA (sA s 11 f11) 12 f12) 13 f13) 14 f14) 15 f15) 16 f16) 17 f17) 18 f18) 19 f19) 0 (0)) 25 k25) 33 k33) 34 k34
theorem vX3_rest_1 (s : MS) (a1 : Int) (a2 : Int) (hp : tOK (s.2 6) ∧ aOK (s.2 6) (s.2 7) ∧ lOK ((s.2 5) 0) (s.2 6)) (x3 : Int) (f11 : Int → Int) (f12 : Int → Int) (f13 : Int → Int) (f14 : Int → Int) (f15 : Int → Int) (f16 : Int → Int) (f17 : Int → Int) (f18 : Int → Int) (f19 : Int → Int) (k0 : Int) (k25 : Int) (k33 : Int) (k34 : Int) (hI : k0 = 0 ∧ NXO (s.2 6) (s.2 7) f13 ∧ BS f18 (s.2 6 2) (crS (s.2 6) (s.2 7) (s.2 9) a1 a2.toNat) ∧ (0 < s.2 5 0 ∧ 0 ≤ a1 ∧ a1 ≤ 3 ∧ 0 ≤ a2 ∧ a2 ≤ 200) ∧ (∃ z, crS (s.2 6) (s.2 7) (s.2 9) a1 a2.toNat z) ∧ (1 ≤ x3 ∧ x3 ≤ 99) ∧ ∀ j : Int, x3 < j → j ≤ 99 → ¬ isR (crS (s.2 6) (s.2 7) (s.2 9) a1 a2.toNat) j) (c_1 : x3 < 2) : k0 = (0) := by
  obtain ⟨ht, ha, hl⟩ := hp
  have hN := tOK_N ht
  have hL := tOK_L ht
  (try simp only [bI_0, bI_n, Classical.not_not] at *)
  (try have hN2 : 0 < s.2 6 2 := lOK_N ht hl (by omega))
  (try have hq := ‹NXO _ _ _ ∧ BS _ _ _›)
  (try have hq := And.intro hI.2.1 hI.2.2.1)
  (try unfold lex3)
  (try simp only [bI_0, bI_n, Classical.not_not] at *)
  (try simp (disch := omega) only [i32_id] at *)
  first | done | omega | ((repeat' (with_reducible apply And.intro)) <;> first | assumption | rfl | omega | (exact hI.1) | (exact hq.1) | (exact hq.2) | (unfold rRest; rw [if_neg (by omega)]) | (exact BS_01 hq.2) | (exact hI.2.2.2.2.1) | (exact bC_01 _) | (unfold rRest; rw [if_pos (by omega)]; exact (restF_no (fun z q => many_z (by assumption) z (crS_in q).1 (by have := (crS_in q).2; omega) (by rw [hq.2 z (crS_in q).1 (crS_in q).2]; exact bC_t q))).symm) | (unfold rRest; rw [if_pos (by omega)]; exact (restF_none hI.2.2.2.2.1 (fun j a b => hI.2.2.2.2.2.2 j (by omega) b)).symm) | (unfold rRest; rw [if_pos (by omega)]; exact (restF_at hI.2.2.2.2.1 (by omega) hI.2.2.2.2.2.1.2 ((isR_c (BS_cr hq.2)).mp (by rw [bC_0, Classical.not_not] at *; assumption)) hI.2.2.2.2.2.2).symm) | (exact Classical.not_not.mp (fun w => c_13 (many_no _ (fun i h0 h1 => by rw [hq.2 i h0 (by omega), bC_1]; exact fun q => w ⟨i, q⟩)))) | (intro j h0 h1; omega) | (intro j h0 h1; by_cases e : j = x3; (focus (rw [e]; exact fun w => bC_0.mp c_4 ((isR_c (BS_cr hq.2)).mpr w))); (focus (exact hI.2.2.2.2.2.2 j (by omega) h1))) | grind [upI])
theorem vX3_rest_2 (s : MS) (a1 : Int) (a2 : Int) (hp : tOK (s.2 6) ∧ aOK (s.2 6) (s.2 7) ∧ lOK ((s.2 5) 0) (s.2 6)) (x3 : Int) (f11 : Int → Int) (f12 : Int → Int) (f13 : Int → Int) (f14 : Int → Int) (f15 : Int → Int) (f16 : Int → Int) (f17 : Int → Int) (f18 : Int → Int) (f19 : Int → Int) (k0 : Int) (k25 : Int) (k33 : Int) (k34 : Int) (hI : k0 = 0 ∧ NXO (s.2 6) (s.2 7) f13 ∧ BS f18 (s.2 6 2) (crS (s.2 6) (s.2 7) (s.2 9) a1 a2.toNat) ∧ (0 < s.2 5 0 ∧ 0 ≤ a1 ∧ a1 ≤ 3 ∧ 0 ≤ a2 ∧ a2 ≤ 200) ∧ (∃ z, crS (s.2 6) (s.2 7) (s.2 9) a1 a2.toNat z) ∧ (1 ≤ x3 ∧ x3 ≤ 99) ∧ ∀ j : Int, x3 < j → j ≤ 99 → ¬ isR (crS (s.2 6) (s.2 7) (s.2 9) a1 a2.toNat) j) (c_1 : x3 < 2) : (-1) = (rRest ((s.2 5) 0) (s.2 6) (s.2 7) (s.2 9) a1 a2) := by
  obtain ⟨ht, ha, hl⟩ := hp
  have hN := tOK_N ht
  have hL := tOK_L ht
  (try simp only [bI_0, bI_n, Classical.not_not] at *)
  (try have hN2 : 0 < s.2 6 2 := lOK_N ht hl (by omega))
  (try have hq := ‹NXO _ _ _ ∧ BS _ _ _›)
  (try have hq := And.intro hI.2.1 hI.2.2.1)
  (try unfold lex3)
  (try simp only [bI_0, bI_n, Classical.not_not] at *)
  (try simp (disch := omega) only [i32_id] at *)
  first | done | omega | ((repeat' (with_reducible apply And.intro)) <;> first | assumption | rfl | omega | (exact hI.1) | (exact hq.1) | (exact hq.2) | (unfold rRest; rw [if_neg (by omega)]) | (exact BS_01 hq.2) | (exact hI.2.2.2.2.1) | (exact bC_01 _) | (unfold rRest; rw [if_pos (by omega)]; exact (restF_no (fun z q => many_z (by assumption) z (crS_in q).1 (by have := (crS_in q).2; omega) (by rw [hq.2 z (crS_in q).1 (crS_in q).2]; exact bC_t q))).symm) | (unfold rRest; rw [if_pos (by omega)]; exact (restF_none hI.2.2.2.2.1 (fun j a b => hI.2.2.2.2.2.2 j (by omega) b)).symm) | (unfold rRest; rw [if_pos (by omega)]; exact (restF_at hI.2.2.2.2.1 (by omega) hI.2.2.2.2.2.1.2 ((isR_c (BS_cr hq.2)).mp (by rw [bC_0, Classical.not_not] at *; assumption)) hI.2.2.2.2.2.2).symm) | (exact Classical.not_not.mp (fun w => c_13 (many_no _ (fun i h0 h1 => by rw [hq.2 i h0 (by omega), bC_1]; exact fun q => w ⟨i, q⟩)))) | (intro j h0 h1; omega) | (intro j h0 h1; by_cases e : j = x3; (focus (rw [e]; exact fun w => bC_0.mp c_4 ((isR_c (BS_cr hq.2)).mpr w))); (focus (exact hI.2.2.2.2.2.2 j (by omega) h1))) | grind [upI])
theorem vX3_rest_3 (s : MS) (a1 : Int) (a2 : Int) (hp : tOK (s.2 6) ∧ aOK (s.2 6) (s.2 7) ∧ lOK ((s.2 5) 0) (s.2 6)) (x3 : Int) (f11 : Int → Int) (f12 : Int → Int) (f13 : Int → Int) (f14 : Int → Int) (f15 : Int → Int) (f16 : Int → Int) (f17 : Int → Int) (f18 : Int → Int) (f19 : Int → Int) (k0 : Int) (k25 : Int) (k33 : Int) (k34 : Int) (hI : k0 = 0 ∧ NXO (s.2 6) (s.2 7) f13 ∧ BS f18 (s.2 6 2) (crS (s.2 6) (s.2 7) (s.2 9) a1 a2.toNat) ∧ (0 < s.2 5 0 ∧ 0 ≤ a1 ∧ a1 ≤ 3 ∧ 0 ≤ a2 ∧ a2 ≤ 200) ∧ (∃ z, crS (s.2 6) (s.2 7) (s.2 9) a1 a2.toNat z) ∧ (1 ≤ x3 ∧ x3 ≤ 99) ∧ ∀ j : Int, x3 < j → j ≤ 99 → ¬ isR (crS (s.2 6) (s.2 7) (s.2 9) a1 a2.toNat) j) (c_1 : ¬ x3 < 2) : (tOK (s.2 6) ∧ (2 ≤ x3 ∧ x3 ≤ 99) ∧ ∀ z : Int, 0 ≤ z → z < (s.2 6) 2 → f18 z = 0 ∨ f18 z = 1) := by
  obtain ⟨ht, ha, hl⟩ := hp
  have hN := tOK_N ht
  have hL := tOK_L ht
  (try simp only [bI_0, bI_n, Classical.not_not] at *)
  (try have hN2 : 0 < s.2 6 2 := lOK_N ht hl (by omega))
  (try have hq := ‹NXO _ _ _ ∧ BS _ _ _›)
  (try have hq := And.intro hI.2.1 hI.2.2.1)
  (try unfold lex3)
  (try simp only [bI_0, bI_n, Classical.not_not] at *)
  (try simp (disch := omega) only [i32_id] at *)
  first | done | omega | ((repeat' (with_reducible apply And.intro)) <;> first | assumption | rfl | omega | (exact hI.1) | (exact hq.1) | (exact hq.2) | (unfold rRest; rw [if_neg (by omega)]) | (exact BS_01 hq.2) | (exact hI.2.2.2.2.1) | (exact bC_01 _) | (unfold rRest; rw [if_pos (by omega)]; exact (restF_no (fun z q => many_z (by assumption) z (crS_in q).1 (by have := (crS_in q).2; omega) (by rw [hq.2 z (crS_in q).1 (crS_in q).2]; exact bC_t q))).symm) | (unfold rRest; rw [if_pos (by omega)]; exact (restF_none hI.2.2.2.2.1 (fun j a b => hI.2.2.2.2.2.2 j (by omega) b)).symm) | (unfold rRest; rw [if_pos (by omega)]; exact (restF_at hI.2.2.2.2.1 (by omega) hI.2.2.2.2.2.1.2 ((isR_c (BS_cr hq.2)).mp (by rw [bC_0, Classical.not_not] at *; assumption)) hI.2.2.2.2.2.2).symm) | (exact Classical.not_not.mp (fun w => c_13 (many_no _ (fun i h0 h1 => by rw [hq.2 i h0 (by omega), bC_1]; exact fun q => w ⟨i, q⟩)))) | (intro j h0 h1; omega) | (intro j h0 h1; by_cases e : j = x3; (focus (rw [e]; exact fun w => bC_0.mp c_4 ((isR_c (BS_cr hq.2)).mpr w))); (focus (exact hI.2.2.2.2.2.2 j (by omega) h1))) | grind [upI])
theorem vX3_rest_4 (s : MS) (a1 : Int) (a2 : Int) (hp : tOK (s.2 6) ∧ aOK (s.2 6) (s.2 7) ∧ lOK ((s.2 5) 0) (s.2 6)) (x3 : Int) (f11 : Int → Int) (f12 : Int → Int) (f13 : Int → Int) (f14 : Int → Int) (f15 : Int → Int) (f16 : Int → Int) (f17 : Int → Int) (f18 : Int → Int) (f19 : Int → Int) (k0 : Int) (k25 : Int) (k33 : Int) (k34 : Int) (hI : k0 = 0 ∧ NXO (s.2 6) (s.2 7) f13 ∧ BS f18 (s.2 6 2) (crS (s.2 6) (s.2 7) (s.2 9) a1 a2.toNat) ∧ (0 < s.2 5 0 ∧ 0 ≤ a1 ∧ a1 ≤ 3 ∧ 0 ≤ a2 ∧ a2 ≤ 200) ∧ (∃ z, crS (s.2 6) (s.2 7) (s.2 9) a1 a2.toNat z) ∧ (1 ≤ x3 ∧ x3 ≤ 99) ∧ ∀ j : Int, x3 < j → j ≤ 99 → ¬ isR (crS (s.2 6) (s.2 7) (s.2 9) a1 a2.toNat) j) (c_1 : ¬ x3 < 2) (o_2 : (tOK (s.2 6) ∧ (2 ≤ x3 ∧ x3 ≤ 99) ∧ ∀ z : Int, 0 ≤ z → z < (s.2 6) 2 → f18 z = 0 ∨ f18 z = 1)) (c_4 : (bC (isR (ofB f18 ((s.2 6) 2)) x3)) = 0) : k0 = 0 ∧ NXO (s.2 6) (s.2 7) f13 ∧ BS f18 (s.2 6 2) (crS (s.2 6) (s.2 7) (s.2 9) a1 a2.toNat) ∧ (0 < s.2 5 0 ∧ 0 ≤ a1 ∧ a1 ≤ 3 ∧ 0 ≤ a2 ∧ a2 ≤ 200) ∧ (∃ z, crS (s.2 6) (s.2 7) (s.2 9) a1 a2.toNat z) ∧ (1 ≤ (i32 (x3 + (-1))) ∧ (i32 (x3 + (-1))) ≤ 99) ∧ ∀ j : Int, (i32 (x3 + (-1))) < j → j ≤ 99 → ¬ isR (crS (s.2 6) (s.2 7) (s.2 9) a1 a2.toNat) j := by
  obtain ⟨ht, ha, hl⟩ := hp
  have hN := tOK_N ht
  have hL := tOK_L ht
  (try simp only [bI_0, bI_n, Classical.not_not] at *)
  (try have hN2 : 0 < s.2 6 2 := lOK_N ht hl (by omega))
  (try have hq := ‹NXO _ _ _ ∧ BS _ _ _›)
  (try have hq := And.intro hI.2.1 hI.2.2.1)
  (try unfold lex3)
  (try simp only [bI_0, bI_n, Classical.not_not] at *)
  (try simp (disch := omega) only [i32_id] at *)
  first | done | omega | ((repeat' (with_reducible apply And.intro)) <;> first | assumption | rfl | omega | (exact hI.1) | (exact hq.1) | (exact hq.2) | (unfold rRest; rw [if_neg (by omega)]) | (exact BS_01 hq.2) | (exact hI.2.2.2.2.1) | (exact bC_01 _) | (unfold rRest; rw [if_pos (by omega)]; exact (restF_no (fun z q => many_z (by assumption) z (crS_in q).1 (by have := (crS_in q).2; omega) (by rw [hq.2 z (crS_in q).1 (crS_in q).2]; exact bC_t q))).symm) | (unfold rRest; rw [if_pos (by omega)]; exact (restF_none hI.2.2.2.2.1 (fun j a b => hI.2.2.2.2.2.2 j (by omega) b)).symm) | (unfold rRest; rw [if_pos (by omega)]; exact (restF_at hI.2.2.2.2.1 (by omega) hI.2.2.2.2.2.1.2 ((isR_c (BS_cr hq.2)).mp (by rw [bC_0, Classical.not_not] at *; assumption)) hI.2.2.2.2.2.2).symm) | (exact Classical.not_not.mp (fun w => c_13 (many_no _ (fun i h0 h1 => by rw [hq.2 i h0 (by omega), bC_1]; exact fun q => w ⟨i, q⟩)))) | (intro j h0 h1; omega) | (intro j h0 h1; by_cases e : j = x3; (focus (rw [e]; exact fun w => bC_0.mp c_4 ((isR_c (BS_cr hq.2)).mpr w))); (focus (exact hI.2.2.2.2.2.2 j (by omega) h1))) | grind [upI])
theorem vX3_rest_5 (s : MS) (a1 : Int) (a2 : Int) (hp : tOK (s.2 6) ∧ aOK (s.2 6) (s.2 7) ∧ lOK ((s.2 5) 0) (s.2 6)) (x3 : Int) (f11 : Int → Int) (f12 : Int → Int) (f13 : Int → Int) (f14 : Int → Int) (f15 : Int → Int) (f16 : Int → Int) (f17 : Int → Int) (f18 : Int → Int) (f19 : Int → Int) (k0 : Int) (k25 : Int) (k33 : Int) (k34 : Int) (hI : k0 = 0 ∧ NXO (s.2 6) (s.2 7) f13 ∧ BS f18 (s.2 6 2) (crS (s.2 6) (s.2 7) (s.2 9) a1 a2.toNat) ∧ (0 < s.2 5 0 ∧ 0 ≤ a1 ∧ a1 ≤ 3 ∧ 0 ≤ a2 ∧ a2 ≤ 200) ∧ (∃ z, crS (s.2 6) (s.2 7) (s.2 9) a1 a2.toNat z) ∧ (1 ≤ x3 ∧ x3 ≤ 99) ∧ ∀ j : Int, x3 < j → j ≤ 99 → ¬ isR (crS (s.2 6) (s.2 7) (s.2 9) a1 a2.toNat) j) (c_1 : ¬ x3 < 2) (o_2 : (tOK (s.2 6) ∧ (2 ≤ x3 ∧ x3 ≤ 99) ∧ ∀ z : Int, 0 ≤ z → z < (s.2 6) 2 → f18 z = 0 ∨ f18 z = 1)) (c_4 : (bC (isR (ofB f18 ((s.2 6) 2)) x3)) = 0) : lex3 0 0 (((i32 (x3 + (-1))) - 1).toNat) 0 0 ((x3 - 1).toNat) := by
  obtain ⟨ht, ha, hl⟩ := hp
  have hN := tOK_N ht
  have hL := tOK_L ht
  (try simp only [bI_0, bI_n, Classical.not_not] at *)
  (try have hN2 : 0 < s.2 6 2 := lOK_N ht hl (by omega))
  (try have hq := ‹NXO _ _ _ ∧ BS _ _ _›)
  (try have hq := And.intro hI.2.1 hI.2.2.1)
  (try unfold lex3)
  (try simp only [bI_0, bI_n, Classical.not_not] at *)
  (try simp (disch := omega) only [i32_id] at *)
  first | done | omega | ((repeat' (with_reducible apply And.intro)) <;> first | assumption | rfl | omega | (exact hI.1) | (exact hq.1) | (exact hq.2) | (unfold rRest; rw [if_neg (by omega)]) | (exact BS_01 hq.2) | (exact hI.2.2.2.2.1) | (exact bC_01 _) | (unfold rRest; rw [if_pos (by omega)]; exact (restF_no (fun z q => many_z (by assumption) z (crS_in q).1 (by have := (crS_in q).2; omega) (by rw [hq.2 z (crS_in q).1 (crS_in q).2]; exact bC_t q))).symm) | (unfold rRest; rw [if_pos (by omega)]; exact (restF_none hI.2.2.2.2.1 (fun j a b => hI.2.2.2.2.2.2 j (by omega) b)).symm) | (unfold rRest; rw [if_pos (by omega)]; exact (restF_at hI.2.2.2.2.1 (by omega) hI.2.2.2.2.2.1.2 ((isR_c (BS_cr hq.2)).mp (by rw [bC_0, Classical.not_not] at *; assumption)) hI.2.2.2.2.2.2).symm) | (exact Classical.not_not.mp (fun w => c_13 (many_no _ (fun i h0 h1 => by rw [hq.2 i h0 (by omega), bC_1]; exact fun q => w ⟨i, q⟩)))) | (intro j h0 h1; omega) | (intro j h0 h1; by_cases e : j = x3; (focus (rw [e]; exact fun w => bC_0.mp c_4 ((isR_c (BS_cr hq.2)).mpr w))); (focus (exact hI.2.2.2.2.2.2 j (by omega) h1))) | grind [upI])
theorem vX3_rest_6 (s : MS) (a1 : Int) (a2 : Int) (hp : tOK (s.2 6) ∧ aOK (s.2 6) (s.2 7) ∧ lOK ((s.2 5) 0) (s.2 6)) (x3 : Int) (f11 : Int → Int) (f12 : Int → Int) (f13 : Int → Int) (f14 : Int → Int) (f15 : Int → Int) (f16 : Int → Int) (f17 : Int → Int) (f18 : Int → Int) (f19 : Int → Int) (k0 : Int) (k25 : Int) (k33 : Int) (k34 : Int) (hI : k0 = 0 ∧ NXO (s.2 6) (s.2 7) f13 ∧ BS f18 (s.2 6 2) (crS (s.2 6) (s.2 7) (s.2 9) a1 a2.toNat) ∧ (0 < s.2 5 0 ∧ 0 ≤ a1 ∧ a1 ≤ 3 ∧ 0 ≤ a2 ∧ a2 ≤ 200) ∧ (∃ z, crS (s.2 6) (s.2 7) (s.2 9) a1 a2.toNat z) ∧ (1 ≤ x3 ∧ x3 ≤ 99) ∧ ∀ j : Int, x3 < j → j ≤ 99 → ¬ isR (crS (s.2 6) (s.2 7) (s.2 9) a1 a2.toNat) j) (c_1 : ¬ x3 < 2) (o_2 : (tOK (s.2 6) ∧ (2 ≤ x3 ∧ x3 ≤ 99) ∧ ∀ z : Int, 0 ≤ z → z < (s.2 6) 2 → f18 z = 0 ∨ f18 z = 1)) (c_4 : ¬ (bC (isR (ofB f18 ((s.2 6) 2)) x3)) = 0) : k0 = (0) := by
  obtain ⟨ht, ha, hl⟩ := hp
  have hN := tOK_N ht
  have hL := tOK_L ht
  (try simp only [bI_0, bI_n, Classical.not_not] at *)
  (try have hN2 : 0 < s.2 6 2 := lOK_N ht hl (by omega))
  (try have hq := ‹NXO _ _ _ ∧ BS _ _ _›)
  (try have hq := And.intro hI.2.1 hI.2.2.1)
  (try unfold lex3)
  (try simp only [bI_0, bI_n, Classical.not_not] at *)
  (try simp (disch := omega) only [i32_id] at *)
  first | done | omega | ((repeat' (with_reducible apply And.intro)) <;> first | assumption | rfl | omega | (exact hI.1) | (exact hq.1) | (exact hq.2) | (unfold rRest; rw [if_neg (by omega)]) | (exact BS_01 hq.2) | (exact hI.2.2.2.2.1) | (exact bC_01 _) | (unfold rRest; rw [if_pos (by omega)]; exact (restF_no (fun z q => many_z (by assumption) z (crS_in q).1 (by have := (crS_in q).2; omega) (by rw [hq.2 z (crS_in q).1 (crS_in q).2]; exact bC_t q))).symm) | (unfold rRest; rw [if_pos (by omega)]; exact (restF_none hI.2.2.2.2.1 (fun j a b => hI.2.2.2.2.2.2 j (by omega) b)).symm) | (unfold rRest; rw [if_pos (by omega)]; exact (restF_at hI.2.2.2.2.1 (by omega) hI.2.2.2.2.2.1.2 ((isR_c (BS_cr hq.2)).mp (by rw [bC_0, Classical.not_not] at *; assumption)) hI.2.2.2.2.2.2).symm) | (exact Classical.not_not.mp (fun w => c_13 (many_no _ (fun i h0 h1 => by rw [hq.2 i h0 (by omega), bC_1]; exact fun q => w ⟨i, q⟩)))) | (intro j h0 h1; omega) | (intro j h0 h1; by_cases e : j = x3; (focus (rw [e]; exact fun w => bC_0.mp c_4 ((isR_c (BS_cr hq.2)).mpr w))); (focus (exact hI.2.2.2.2.2.2 j (by omega) h1))) | grind [upI])
theorem vX3_rest_7 (s : MS) (a1 : Int) (a2 : Int) (hp : tOK (s.2 6) ∧ aOK (s.2 6) (s.2 7) ∧ lOK ((s.2 5) 0) (s.2 6)) (x3 : Int) (f11 : Int → Int) (f12 : Int → Int) (f13 : Int → Int) (f14 : Int → Int) (f15 : Int → Int) (f16 : Int → Int) (f17 : Int → Int) (f18 : Int → Int) (f19 : Int → Int) (k0 : Int) (k25 : Int) (k33 : Int) (k34 : Int) (hI : k0 = 0 ∧ NXO (s.2 6) (s.2 7) f13 ∧ BS f18 (s.2 6 2) (crS (s.2 6) (s.2 7) (s.2 9) a1 a2.toNat) ∧ (0 < s.2 5 0 ∧ 0 ≤ a1 ∧ a1 ≤ 3 ∧ 0 ≤ a2 ∧ a2 ≤ 200) ∧ (∃ z, crS (s.2 6) (s.2 7) (s.2 9) a1 a2.toNat z) ∧ (1 ≤ x3 ∧ x3 ≤ 99) ∧ ∀ j : Int, x3 < j → j ≤ 99 → ¬ isR (crS (s.2 6) (s.2 7) (s.2 9) a1 a2.toNat) j) (c_1 : ¬ x3 < 2) (o_2 : (tOK (s.2 6) ∧ (2 ≤ x3 ∧ x3 ≤ 99) ∧ ∀ z : Int, 0 ≤ z → z < (s.2 6) 2 → f18 z = 0 ∨ f18 z = 1)) (c_4 : ¬ (bC (isR (ofB f18 ((s.2 6) 2)) x3)) = 0) : x3 = (rRest ((s.2 5) 0) (s.2 6) (s.2 7) (s.2 9) a1 a2) := by
  obtain ⟨ht, ha, hl⟩ := hp
  have hN := tOK_N ht
  have hL := tOK_L ht
  (try simp only [bI_0, bI_n, Classical.not_not] at *)
  (try have hN2 : 0 < s.2 6 2 := lOK_N ht hl (by omega))
  (try have hq := ‹NXO _ _ _ ∧ BS _ _ _›)
  (try have hq := And.intro hI.2.1 hI.2.2.1)
  (try unfold lex3)
  (try simp only [bI_0, bI_n, Classical.not_not] at *)
  (try simp (disch := omega) only [i32_id] at *)
  first | done | omega | ((repeat' (with_reducible apply And.intro)) <;> first | assumption | rfl | omega | (exact hI.1) | (exact hq.1) | (exact hq.2) | (unfold rRest; rw [if_neg (by omega)]) | (exact BS_01 hq.2) | (exact hI.2.2.2.2.1) | (exact bC_01 _) | (unfold rRest; rw [if_pos (by omega)]; exact (restF_no (fun z q => many_z (by assumption) z (crS_in q).1 (by have := (crS_in q).2; omega) (by rw [hq.2 z (crS_in q).1 (crS_in q).2]; exact bC_t q))).symm) | (unfold rRest; rw [if_pos (by omega)]; exact (restF_none hI.2.2.2.2.1 (fun j a b => hI.2.2.2.2.2.2 j (by omega) b)).symm) | (unfold rRest; rw [if_pos (by omega)]; exact (restF_at hI.2.2.2.2.1 (by omega) hI.2.2.2.2.2.1.2 ((isR_c (BS_cr hq.2)).mp (by rw [bC_0, Classical.not_not] at *; assumption)) hI.2.2.2.2.2.2).symm) | (exact Classical.not_not.mp (fun w => c_13 (many_no _ (fun i h0 h1 => by rw [hq.2 i h0 (by omega), bC_1]; exact fun q => w ⟨i, q⟩)))) | (intro j h0 h1; omega) | (intro j h0 h1; by_cases e : j = x3; (focus (rw [e]; exact fun w => bC_0.mp c_4 ((isR_c (BS_cr hq.2)).mpr w))); (focus (exact hI.2.2.2.2.2.2 j (by omega) h1))) | grind [upI])
theorem vX3_rest_8 (s : MS) (a1 : Int) (a2 : Int) (hp : tOK (s.2 6) ∧ aOK (s.2 6) (s.2 7) ∧ lOK ((s.2 5) 0) (s.2 6)) (c_2 : ¬ (bI (0 < (s.2 5) 0 ∧ (0 ≤ a1 ∧ a1 ≤ 3) ∧ 0 ≤ a2 ∧ a2 ≤ 200)) = 0) : (tOK (s.2 6) ∧ aOK (s.2 6) (s.2 7) ∧ (0 ≤ a1 ∧ a1 ≤ 3) ∧ 0 ≤ a2 ∧ a2 ≤ 200) := by
  obtain ⟨ht, ha, hl⟩ := hp
  have hN := tOK_N ht
  have hL := tOK_L ht
  (try simp only [bI_0, bI_n, Classical.not_not] at *)
  (try have hN2 : 0 < s.2 6 2 := lOK_N ht hl (by omega))
  (try have hq := ‹NXO _ _ _ ∧ BS _ _ _›)
  (try have hq := And.intro hI.2.1 hI.2.2.1)
  (try unfold lex3)
  (try simp only [bI_0, bI_n, Classical.not_not] at *)
  (try simp (disch := omega) only [i32_id] at *)
  first | done | omega | ((repeat' (with_reducible apply And.intro)) <;> first | assumption | rfl | omega | (exact hI.1) | (exact hq.1) | (exact hq.2) | (unfold rRest; rw [if_neg (by omega)]) | (exact BS_01 hq.2) | (exact hI.2.2.2.2.1) | (exact bC_01 _) | (unfold rRest; rw [if_pos (by omega)]; exact (restF_no (fun z q => many_z (by assumption) z (crS_in q).1 (by have := (crS_in q).2; omega) (by rw [hq.2 z (crS_in q).1 (crS_in q).2]; exact bC_t q))).symm) | (unfold rRest; rw [if_pos (by omega)]; exact (restF_none hI.2.2.2.2.1 (fun j a b => hI.2.2.2.2.2.2 j (by omega) b)).symm) | (unfold rRest; rw [if_pos (by omega)]; exact (restF_at hI.2.2.2.2.1 (by omega) hI.2.2.2.2.2.1.2 ((isR_c (BS_cr hq.2)).mp (by rw [bC_0, Classical.not_not] at *; assumption)) hI.2.2.2.2.2.2).symm) | (exact Classical.not_not.mp (fun w => c_13 (many_no _ (fun i h0 h1 => by rw [hq.2 i h0 (by omega), bC_1]; exact fun q => w ⟨i, q⟩)))) | (intro j h0 h1; omega) | (intro j h0 h1; by_cases e : j = x3; (focus (rw [e]; exact fun w => bC_0.mp c_4 ((isR_c (BS_cr hq.2)).mpr w))); (focus (exact hI.2.2.2.2.2.2 j (by omega) h1))) | grind [upI])
theorem vX3_rest_9 (s : MS) (a1 : Int) (a2 : Int) (hp : tOK (s.2 6) ∧ aOK (s.2 6) (s.2 7) ∧ lOK ((s.2 5) 0) (s.2 6)) (c_2 : ¬ (bI (0 < (s.2 5) 0 ∧ (0 ≤ a1 ∧ a1 ≤ 3) ∧ 0 ≤ a2 ∧ a2 ≤ 200)) = 0) (o_3 : (tOK (s.2 6) ∧ aOK (s.2 6) (s.2 7) ∧ (0 ≤ a1 ∧ a1 ≤ 3) ∧ 0 ≤ a2 ∧ a2 ≤ 200)) (f_4 : Int → Int) (f_5 : Int → Int) (f_6 : Int → Int) (f_7 : Int → Int) (f_8 : Int → Int) (k_9 : Int) (q_10 : (NXO (s.2 6) (s.2 7) f_6 ∧ BS f_7 ((s.2 6) 2) (crS (s.2 6) (s.2 7) (s.2 9) a1 (a2).toNat))) : (tOK (s.2 6) ∧ ∀ z : Int, 0 ≤ z → z < (s.2 6) 2 → f_7 z = 0 ∨ f_7 z = 1) := by
  obtain ⟨ht, ha, hl⟩ := hp
  have hN := tOK_N ht
  have hL := tOK_L ht
  (try simp only [bI_0, bI_n, Classical.not_not] at *)
  (try have hN2 : 0 < s.2 6 2 := lOK_N ht hl (by omega))
  (try have hq := ‹NXO _ _ _ ∧ BS _ _ _›)
  (try have hq := And.intro hI.2.1 hI.2.2.1)
  (try unfold lex3)
  (try simp only [bI_0, bI_n, Classical.not_not] at *)
  (try simp (disch := omega) only [i32_id] at *)
  first | done | omega | ((repeat' (with_reducible apply And.intro)) <;> first | assumption | rfl | omega | (exact hI.1) | (exact hq.1) | (exact hq.2) | (unfold rRest; rw [if_neg (by omega)]) | (exact BS_01 hq.2) | (exact hI.2.2.2.2.1) | (exact bC_01 _) | (unfold rRest; rw [if_pos (by omega)]; exact (restF_no (fun z q => many_z (by assumption) z (crS_in q).1 (by have := (crS_in q).2; omega) (by rw [hq.2 z (crS_in q).1 (crS_in q).2]; exact bC_t q))).symm) | (unfold rRest; rw [if_pos (by omega)]; exact (restF_none hI.2.2.2.2.1 (fun j a b => hI.2.2.2.2.2.2 j (by omega) b)).symm) | (unfold rRest; rw [if_pos (by omega)]; exact (restF_at hI.2.2.2.2.1 (by omega) hI.2.2.2.2.2.1.2 ((isR_c (BS_cr hq.2)).mp (by rw [bC_0, Classical.not_not] at *; assumption)) hI.2.2.2.2.2.2).symm) | (exact Classical.not_not.mp (fun w => c_13 (many_no _ (fun i h0 h1 => by rw [hq.2 i h0 (by omega), bC_1]; exact fun q => w ⟨i, q⟩)))) | (intro j h0 h1; omega) | (intro j h0 h1; by_cases e : j = x3; (focus (rw [e]; exact fun w => bC_0.mp c_4 ((isR_c (BS_cr hq.2)).mpr w))); (focus (exact hI.2.2.2.2.2.2 j (by omega) h1))) | grind [upI])
theorem vX3_rest_10 (s : MS) (a1 : Int) (a2 : Int) (hp : tOK (s.2 6) ∧ aOK (s.2 6) (s.2 7) ∧ lOK ((s.2 5) 0) (s.2 6)) (c_2 : ¬ (bI (0 < (s.2 5) 0 ∧ (0 ≤ a1 ∧ a1 ≤ 3) ∧ 0 ≤ a2 ∧ a2 ≤ 200)) = 0) (o_3 : (tOK (s.2 6) ∧ aOK (s.2 6) (s.2 7) ∧ (0 ≤ a1 ∧ a1 ≤ 3) ∧ 0 ≤ a2 ∧ a2 ≤ 200)) (f_4 : Int → Int) (f_5 : Int → Int) (f_6 : Int → Int) (f_7 : Int → Int) (f_8 : Int → Int) (k_9 : Int) (q_10 : (NXO (s.2 6) (s.2 7) f_6 ∧ BS f_7 ((s.2 6) 2) (crS (s.2 6) (s.2 7) (s.2 9) a1 (a2).toNat))) (o_11 : (tOK (s.2 6) ∧ ∀ z : Int, 0 ≤ z → z < (s.2 6) 2 → f_7 z = 0 ∨ f_7 z = 1)) (c_13 : ¬ (many (fun z => f_7 z = 1) ((s.2 6) 2).toNat) = 0) : (0 : Int) = 0 ∧ NXO (s.2 6) (s.2 7) f_6 ∧ BS f_7 (s.2 6 2) (crS (s.2 6) (s.2 7) (s.2 9) a1 a2.toNat) ∧ (0 < s.2 5 0 ∧ 0 ≤ a1 ∧ a1 ≤ 3 ∧ 0 ≤ a2 ∧ a2 ≤ 200) ∧ (∃ z, crS (s.2 6) (s.2 7) (s.2 9) a1 a2.toNat z) ∧ (1 ≤ (99 : Int) ∧ (99 : Int) ≤ 99) ∧ ∀ j : Int, (99 : Int) < j → j ≤ 99 → ¬ isR (crS (s.2 6) (s.2 7) (s.2 9) a1 a2.toNat) j := by
  obtain ⟨ht, ha, hl⟩ := hp
  have hN := tOK_N ht
  have hL := tOK_L ht
  (try simp only [bI_0, bI_n, Classical.not_not] at *)
  (try have hN2 : 0 < s.2 6 2 := lOK_N ht hl (by omega))
  (try have hq := ‹NXO _ _ _ ∧ BS _ _ _›)
  (try have hq := And.intro hI.2.1 hI.2.2.1)
  (try unfold lex3)
  (try simp only [bI_0, bI_n, Classical.not_not] at *)
  (try simp (disch := omega) only [i32_id] at *)
  first | done | omega | ((repeat' (with_reducible apply And.intro)) <;> first | assumption | rfl | omega | (exact hI.1) | (exact hq.1) | (exact hq.2) | (unfold rRest; rw [if_neg (by omega)]) | (exact BS_01 hq.2) | (exact hI.2.2.2.2.1) | (exact bC_01 _) | (unfold rRest; rw [if_pos (by omega)]; exact (restF_no (fun z q => many_z (by assumption) z (crS_in q).1 (by have := (crS_in q).2; omega) (by rw [hq.2 z (crS_in q).1 (crS_in q).2]; exact bC_t q))).symm) | (unfold rRest; rw [if_pos (by omega)]; exact (restF_none hI.2.2.2.2.1 (fun j a b => hI.2.2.2.2.2.2 j (by omega) b)).symm) | (unfold rRest; rw [if_pos (by omega)]; exact (restF_at hI.2.2.2.2.1 (by omega) hI.2.2.2.2.2.1.2 ((isR_c (BS_cr hq.2)).mp (by rw [bC_0, Classical.not_not] at *; assumption)) hI.2.2.2.2.2.2).symm) | (exact Classical.not_not.mp (fun w => c_13 (many_no _ (fun i h0 h1 => by rw [hq.2 i h0 (by omega), bC_1]; exact fun q => w ⟨i, q⟩)))) | (intro j h0 h1; omega) | (intro j h0 h1; by_cases e : j = x3; (focus (rw [e]; exact fun w => bC_0.mp c_4 ((isR_c (BS_cr hq.2)).mpr w))); (focus (exact hI.2.2.2.2.2.2 j (by omega) h1))) | grind [upI])
theorem vX3_rest_11 (s : MS) (a1 : Int) (a2 : Int) (hp : tOK (s.2 6) ∧ aOK (s.2 6) (s.2 7) ∧ lOK ((s.2 5) 0) (s.2 6)) (c_2 : ¬ (bI (0 < (s.2 5) 0 ∧ (0 ≤ a1 ∧ a1 ≤ 3) ∧ 0 ≤ a2 ∧ a2 ≤ 200)) = 0) (o_3 : (tOK (s.2 6) ∧ aOK (s.2 6) (s.2 7) ∧ (0 ≤ a1 ∧ a1 ≤ 3) ∧ 0 ≤ a2 ∧ a2 ≤ 200)) (f_4 : Int → Int) (f_5 : Int → Int) (f_6 : Int → Int) (f_7 : Int → Int) (f_8 : Int → Int) (k_9 : Int) (q_10 : (NXO (s.2 6) (s.2 7) f_6 ∧ BS f_7 ((s.2 6) 2) (crS (s.2 6) (s.2 7) (s.2 9) a1 (a2).toNat))) (o_11 : (tOK (s.2 6) ∧ ∀ z : Int, 0 ≤ z → z < (s.2 6) 2 → f_7 z = 0 ∨ f_7 z = 1)) (c_13 : (many (fun z => f_7 z = 1) ((s.2 6) 2).toNat) = 0) : (-1) = (rRest ((s.2 5) 0) (s.2 6) (s.2 7) (s.2 9) a1 a2) := by
  obtain ⟨ht, ha, hl⟩ := hp
  have hN := tOK_N ht
  have hL := tOK_L ht
  (try simp only [bI_0, bI_n, Classical.not_not] at *)
  (try have hN2 : 0 < s.2 6 2 := lOK_N ht hl (by omega))
  (try have hq := ‹NXO _ _ _ ∧ BS _ _ _›)
  (try have hq := And.intro hI.2.1 hI.2.2.1)
  (try unfold lex3)
  (try simp only [bI_0, bI_n, Classical.not_not] at *)
  (try simp (disch := omega) only [i32_id] at *)
  first | done | omega | ((repeat' (with_reducible apply And.intro)) <;> first | assumption | rfl | omega | (exact hI.1) | (exact hq.1) | (exact hq.2) | (unfold rRest; rw [if_neg (by omega)]) | (exact BS_01 hq.2) | (exact hI.2.2.2.2.1) | (exact bC_01 _) | (unfold rRest; rw [if_pos (by omega)]; exact (restF_no (fun z q => many_z (by assumption) z (crS_in q).1 (by have := (crS_in q).2; omega) (by rw [hq.2 z (crS_in q).1 (crS_in q).2]; exact bC_t q))).symm) | (unfold rRest; rw [if_pos (by omega)]; exact (restF_none hI.2.2.2.2.1 (fun j a b => hI.2.2.2.2.2.2 j (by omega) b)).symm) | (unfold rRest; rw [if_pos (by omega)]; exact (restF_at hI.2.2.2.2.1 (by omega) hI.2.2.2.2.2.1.2 ((isR_c (BS_cr hq.2)).mp (by rw [bC_0, Classical.not_not] at *; assumption)) hI.2.2.2.2.2.2).symm) | (exact Classical.not_not.mp (fun w => c_13 (many_no _ (fun i h0 h1 => by rw [hq.2 i h0 (by omega), bC_1]; exact fun q => w ⟨i, q⟩)))) | (intro j h0 h1; omega) | (intro j h0 h1; by_cases e : j = x3; (focus (rw [e]; exact fun w => bC_0.mp c_4 ((isR_c (BS_cr hq.2)).mpr w))); (focus (exact hI.2.2.2.2.2.2 j (by omega) h1))) | grind [upI])
theorem vX3_rest_12 (s : MS) (a1 : Int) (a2 : Int) (hp : tOK (s.2 6) ∧ aOK (s.2 6) (s.2 7) ∧ lOK ((s.2 5) 0) (s.2 6)) (c_2 : (bI (0 < (s.2 5) 0 ∧ (0 ≤ a1 ∧ a1 ≤ 3) ∧ 0 ≤ a2 ∧ a2 ≤ 200)) = 0) : (-2) = (rRest ((s.2 5) 0) (s.2 6) (s.2 7) (s.2 9) a1 a2) := by
  obtain ⟨ht, ha, hl⟩ := hp
  have hN := tOK_N ht
  have hL := tOK_L ht
  (try simp only [bI_0, bI_n, Classical.not_not] at *)
  (try have hN2 : 0 < s.2 6 2 := lOK_N ht hl (by omega))
  (try have hq := ‹NXO _ _ _ ∧ BS _ _ _›)
  (try have hq := And.intro hI.2.1 hI.2.2.1)
  (try unfold lex3)
  (try simp only [bI_0, bI_n, Classical.not_not] at *)
  (try simp (disch := omega) only [i32_id] at *)
  first | done | omega | ((repeat' (with_reducible apply And.intro)) <;> first | assumption | rfl | omega | (exact hI.1) | (exact hq.1) | (exact hq.2) | (unfold rRest; rw [if_neg (by omega)]) | (exact BS_01 hq.2) | (exact hI.2.2.2.2.1) | (exact bC_01 _) | (unfold rRest; rw [if_pos (by omega)]; exact (restF_no (fun z q => many_z (by assumption) z (crS_in q).1 (by have := (crS_in q).2; omega) (by rw [hq.2 z (crS_in q).1 (crS_in q).2]; exact bC_t q))).symm) | (unfold rRest; rw [if_pos (by omega)]; exact (restF_none hI.2.2.2.2.1 (fun j a b => hI.2.2.2.2.2.2 j (by omega) b)).symm) | (unfold rRest; rw [if_pos (by omega)]; exact (restF_at hI.2.2.2.2.1 (by omega) hI.2.2.2.2.2.1.2 ((isR_c (BS_cr hq.2)).mp (by rw [bC_0, Classical.not_not] at *; assumption)) hI.2.2.2.2.2.2).symm) | (exact Classical.not_not.mp (fun w => c_13 (many_no _ (fun i h0 h1 => by rw [hq.2 i h0 (by omega), bC_1]; exact fun q => w ⟨i, q⟩)))) | (intro j h0 h1; omega) | (intro j h0 h1; by_cases e : j = x3; (focus (rw [e]; exact fun w => bC_0.mp c_4 ((isR_c (BS_cr hq.2)).mpr w))); (focus (exact hI.2.2.2.2.2.2 j (by omega) h1))) | grind [upI])
theorem allX3_rest (b : AH) (s : MS) (a1 : Int) (a2 : Int) (hp : tOK (s.2 6) ∧ aOK (s.2 6) (s.2 7) ∧ lOK ((s.2 5) 0) (s.2 6)) : ∀ m1 m2 m3 : Nat, (∀ (x3 : Int) (f11 : Int → Int) (f12 : Int → Int) (f13 : Int → Int) (f14 : Int → Int) (f15 : Int → Int) (f16 : Int → Int) (f17 : Int → Int) (f18 : Int → Int) (f19 : Int → Int) (k0 : Int) (k25 : Int) (k33 : Int) (k34 : Int), m1 = 0 → m2 = 0 → m3 = ((x3 - 1).toNat) → (k0 = 0 ∧ NXO (s.2 6) (s.2 7) f13 ∧ BS f18 (s.2 6 2) (crS (s.2 6) (s.2 7) (s.2 9) a1 a2.toNat) ∧ (0 < s.2 5 0 ∧ 0 ≤ a1 ∧ a1 ≤ 3 ∧ 0 ≤ a2 ∧ a2 ≤ 200) ∧ (∃ z, crS (s.2 6) (s.2 7) (s.2 9) a1 a2.toNat z) ∧ (1 ≤ x3 ∧ x3 ≤ 99) ∧ ∀ j : Int, x3 < j → j ≤ 99 → ¬ isR (crS (s.2 6) (s.2 7) (s.2 9) a1 a2.toNat) j) → HX3_rest_35 (QX3_rest s a1 a2) b s x3 f11 f12 f13 f14 f15 f16 f17 f18 f19 k0 k25 k33 k34) := by
  refine lex3_ind ?_
  intro m1 m2 m3 ih
  rintro x3 f11 f12 f13 f14 f15 f16 f17 f18 f19 k0 k25 k33 k34 rfl rfl rfl hI
  refine bX3_rest_35 b s x3 f11 f12 f13 f14 f15 f16 f17 f18 f19 k0 k25 k33 k34 ?_
  refine ⟨fun c_1 => ?_, fun c_1 => ?_⟩
  · exact ⟨f11, f12, f13, f14, f15, f16, f17, f18, f19, k25, k33, k34, (rI_c (vX3_rest_2 s a1 a2 hp x3 f11 f12 f13 f14 f15 f16 f17 f18 f19 k0 k25 k33 k34 hI c_1)), (sS_c (sS_c (sS_c (sS_c (sA_c (sA_c (sA_c (sA_c (sA_c (sA_c (sA_c (sA_c (sA_c rfl rfl) rfl) rfl) rfl) rfl) rfl) rfl) rfl) rfl) (vX3_rest_1 s a1 a2 hp x3 f11 f12 f13 f14 f15 f16 f17 f18 f19 k0 k25 k33 k34 hI c_1)) rfl) rfl) rfl)⟩
  · have o_2 : (tOK (s.2 6) ∧ (2 ≤ x3 ∧ x3 ≤ 99) ∧ ∀ z : Int, 0 ≤ z → z < (s.2 6) 2 → f18 z = 0 ∨ f18 z = 1) := (vX3_rest_3 s a1 a2 hp x3 f11 f12 f13 f14 f15 f16 f17 f18 f19 k0 k25 k33 k34 hI c_1)
    refine ⟨o_2, ?_⟩
    refine ⟨fun c_4 => ?_, fun c_4 => ?_⟩
    · exact (ih _ _ _ (vX3_rest_5 s a1 a2 hp x3 f11 f12 f13 f14 f15 f16 f17 f18 f19 k0 k25 k33 k34 hI c_1 o_2 c_4)) (i32 (x3 + (-1))) f11 f12 f13 f14 f15 f16 f17 f18 f19 k0 k25 k33 k34 rfl rfl rfl (vX3_rest_4 s a1 a2 hp x3 f11 f12 f13 f14 f15 f16 f17 f18 f19 k0 k25 k33 k34 hI c_1 o_2 c_4)
    · exact ⟨f11, f12, f13, f14, f15, f16, f17, f18, f19, k25, k33, k34, (rI_c (vX3_rest_7 s a1 a2 hp x3 f11 f12 f13 f14 f15 f16 f17 f18 f19 k0 k25 k33 k34 hI c_1 o_2 c_4)), (sS_c (sS_c (sS_c (sS_c (sA_c (sA_c (sA_c (sA_c (sA_c (sA_c (sA_c (sA_c (sA_c rfl rfl) rfl) rfl) rfl) rfl) rfl) rfl) rfl) rfl) (vX3_rest_6 s a1 a2 hp x3 f11 f12 f13 f14 f15 f16 f17 f18 f19 k0 k25 k33 k34 hI c_1 o_2 c_4)) rfl) rfl) rfl)⟩
theorem ctX3_rest (b : AH) (s : MS) (a1 : Int) (a2 : Int) (hp : tOK (s.2 6) ∧ aOK (s.2 6) (s.2 7) ∧ lOK ((s.2 5) 0) (s.2 6)) : MC mX3_rest 9 b s [vI a1, vI a2] (QX3_rest s a1 a2) := by
  refine MC.of (by decide) rfl (Nat.le_of_ble_eq_true rfl) (JW.steq (s2 := sS (sS (sS (sS (sA (sA (sA (sA (sA (sA (sA (sA (sA s 11 (s.2 11)) 12 (s.2 12)) 13 (s.2 13)) 14 (s.2 14)) 15 (s.2 15)) 16 (s.2 16)) 17 (s.2 17)) 18 (s.2 18)) 19 (s.2 19)) 0 (s.1 0)) 25 (s.1 25)) 33 (s.1 33)) 34 (s.1 34)) (by simp only [sA_id, sS_id]) ?_)
  refine bX3_rest_0 b s a1 a2 (s.2 11) (s.2 12) (s.2 13) (s.2 14) (s.2 15) (s.2 16) (s.2 17) (s.2 18) (s.2 19) (s.1 0) (s.1 25) (s.1 33) (s.1 34) ?_
  refine ⟨fun c_2 => ?_, fun c_2 => ?_⟩
  · have o_3 : (tOK (s.2 6) ∧ aOK (s.2 6) (s.2 7) ∧ (0 ≤ a1 ∧ a1 ≤ 3) ∧ 0 ≤ a2 ∧ a2 ≤ 200) := (vX3_rest_8 s a1 a2 hp c_2)
    refine ⟨o_3, ?_⟩
    intro f_4 f_5 f_6 f_7 f_8 k_9 q_10
    have o_11 : (tOK (s.2 6) ∧ ∀ z : Int, 0 ≤ z → z < (s.2 6) 2 → f_7 z = 0 ∨ f_7 z = 1) := (vX3_rest_9 s a1 a2 hp c_2 o_3 f_4 f_5 f_6 f_7 f_8 k_9 q_10)
    refine ⟨o_11, ?_⟩
    refine ⟨fun c_13 => ?_, fun c_13 => ?_⟩
    · exact (allX3_rest b s a1 a2 hp _ _ _) 99 f_4 f_5 f_6 (s.2 14) (s.2 15) (s.2 16) (s.2 17) f_7 f_8 0 k_9 (s.1 33) (s.1 34) rfl rfl rfl (vX3_rest_10 s a1 a2 hp c_2 o_3 f_4 f_5 f_6 f_7 f_8 k_9 q_10 o_11 c_13)
    · exact ⟨f_4, f_5, f_6, (s.2 14), (s.2 15), (s.2 16), (s.2 17), f_7, f_8, k_9, (s.1 33), (s.1 34), (rI_c (vX3_rest_11 s a1 a2 hp c_2 o_3 f_4 f_5 f_6 f_7 f_8 k_9 q_10 o_11 c_13)), rfl⟩
  · exact ⟨(s.2 11), (s.2 12), (s.2 13), (s.2 14), (s.2 15), (s.2 16), (s.2 17), (s.2 18), (s.2 19), (s.1 25), (s.1 33), (s.1 34), (rI_c (vX3_rest_12 s a1 a2 hp c_2)), rfl⟩
