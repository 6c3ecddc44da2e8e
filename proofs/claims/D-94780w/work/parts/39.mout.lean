/-! contracts of the reference: out -/
set_option maxRecDepth 100000
def HX3_out_0 (Q : Option AV → MS → Prop) (b : AH) (s : MS) (x1 : Int) (x2 : Int) (x3 : Int) (f11 : Int → Int) (f12 : Int → Int) (f13 : Int → Int) (f14 : Int → Int) (f15 : Int → Int) (f16 : Int → Int) (f17 : Int → Int) (f18 : Int → Int) (f19 : Int → Int) (k0 : Int) (k25 : Int) (k33 : Int) (k34 : Int) : Prop := MW mX3_out 9 Q b 0 [(0, vR 351), (1, vI x1), (2, vI x2), (3, vI x3)] [] (sS (sS (sS (sS (sA (sA (sA (sA (sA (sA (sA (sA (sA s 11 f11) 12 f12) 13 f13) 14 f14) 15 f15) 16 f16) 17 f17) 18 f18) 19 f19) 0 k0) 25 k25) 33 k33) 34 k34)
def HX3_out_54 (Q : Option AV → MS → Prop) (b : AH) (s : MS) (x3 : Int) (x4 : Int) (x5 : Int) (f11 : Int → Int) (f12 : Int → Int) (f13 : Int → Int) (f14 : Int → Int) (f15 : Int → Int) (f16 : Int → Int) (f17 : Int → Int) (f18 : Int → Int) (f19 : Int → Int) (k0 : Int) (k25 : Int) (k33 : Int) (k34 : Int) : Prop := MW mX3_out 9 Q b 54 [(0, vR 351), (3, vI x3), (4, vI x4), (5, vI x5)] [] (sS (sS (sS (sS (sA (sA (sA (sA (sA (sA (sA (sA (sA s 11 f11) 12 f12) 13 f13) 14 f14) 15 f15) 16 f16) 17 f17) 18 f18) 19 f19) 0 k0) 25 k25) 33 k33) 34 k34)
def HX3_out_87 (Q : Option AV → MS → Prop) (b : AH) (s : MS) (x3 : Int) (x4 : Int) (x5 : Int) (x6 : Int) (f11 : Int → Int) (f12 : Int → Int) (f13 : Int → Int) (f14 : Int → Int) (f15 : Int → Int) (f16 : Int → Int) (f17 : Int → Int) (f18 : Int → Int) (f19 : Int → Int) (k0 : Int) (k25 : Int) (k33 : Int) (k34 : Int) : Prop := MW mX3_out 9 Q b 87 [(0, vR 351), (3, vI x3), (4, vI x4), (5, vI x5), (6, vI x6)] [] (sS (sS (sS (sS (sA (sA (sA (sA (sA (sA (sA (sA (sA s 11 f11) 12 f12) 13 f13) 14 f14) 15 f15) 16 f16) 17 f17) 18 f18) 19 f19) 0 k0) 25 k25) 33 k33) 34 k34)
def HX3_out_104 (Q : Option AV → MS → Prop) (b : AH) (s : MS) (x3 : Int) (x4 : Int) (x5 : Int) (x6 : Int) (x7 : Int) (x8 : Int) (f11 : Int → Int) (f12 : Int → Int) (f13 : Int → Int) (f14 : Int → Int) (f15 : Int → Int) (f16 : Int → Int) (f17 : Int → Int) (f18 : Int → Int) (f19 : Int → Int) (k0 : Int) (k25 : Int) (k33 : Int) (k34 : Int) : Prop := MW mX3_out 9 Q b 104 [(0, vR 351), (3, vI x3), (4, vI x4), (5, vI x5), (6, vI x6), (7, vI x7), (8, vI x8)] [] (sS (sS (sS (sS (sA (sA (sA (sA (sA (sA (sA (sA (sA s 11 f11) 12 f12) 13 f13) 14 f14) 15 f15) 16 f16) 17 f17) 18 f18) 19 f19) 0 k0) 25 k25) 33 k33) 34 k34)
theorem bX3_out_0 {Q : Option AV → MS → Prop} (b : AH) (s : MS) (x1 : Int) (x2 : Int) (x3 : Int) (f11 : Int → Int) (f12 : Int → Int) (f13 : Int → Int) (f14 : Int → Int) (f15 : Int → Int) (f16 : Int → Int) (f17 : Int → Int) (f18 : Int → Int) (f19 : Int → Int) (k0 : Int) (k25 : Int) (k33 : Int) (k34 : Int) (K : ((bI (0 < (s.2 5) 0 ∧ (0 ≤ x1 ∧ x1 ≤ 3) ∧ 0 ≤ x2 ∧ x2 ≤ 200)) = 0 → Q (some (vI (-2))) (sS (sS (sS (sS (sA (sA (sA (sA (sA (sA (sA (sA (sA s 11 f11) 12 f12) 13 f13) 14 f14) 15 f15) 16 f16) 17 f17) 18 f18) 19 f19) 0 0) 25 k25) 33 k33) 34 k34)) ∧ (¬ (bI (0 < (s.2 5) 0 ∧ (0 ≤ x1 ∧ x1 ≤ 3) ∧ 0 ≤ x2 ∧ x2 ≤ 200)) = 0 → (s.2 6 0) ≠ 0 ∧ ((¬ (bI ((0 : Int) ≤ x3 ∧ x3 ≤ (i32 ((i32 (Int.tdiv (s.2 6 2) (s.2 6 0))) - 1)))) = 0 → (tOK (s.2 6) ∧ aOK (s.2 6) (s.2 7) ∧ (0 ≤ x1 ∧ x1 ≤ 3) ∧ 0 ≤ x2 ∧ x2 ≤ 200) ∧ ((∀ (f_7 : Int → Int) (f_8 : Int → Int) (f_9 : Int → Int) (f_10 : Int → Int) (f_11 : Int → Int) (k_12 : Int), (NXO (s.2 6) (s.2 7) f_9 ∧ BS f_10 ((s.2 6) 2) (crS (s.2 6) (s.2 7) (s.2 9) x1 (x2).toNat)) → HX3_out_54 Q b s x3 0 0 f_7 f_8 f_9 f14 f15 f16 f17 f_10 f_11 0 k_12 k33 k34))) ∧ ((bI ((0 : Int) ≤ x3 ∧ x3 ≤ (i32 ((i32 (Int.tdiv (s.2 6 2) (s.2 6 0))) - 1)))) = 0 → Q (some (vI (-2))) (sS (sS (sS (sS (sA (sA (sA (sA (sA (sA (sA (sA (sA s 11 f11) 12 f12) 13 f13) 14 f14) 15 f15) 16 f16) 17 f17) 18 f18) 19 f19) 0 0) 25 k25) 33 k33) 34 k34))))) : HX3_out_0 Q b s x1 x2 x3 f11 f12 f13 f14 f15 f16 f17 f18 f19 k0 k25 k33 k34 := by
  refine JW.aload_n dX3_out_0 rfl ?_
  refine JW.iconst dX3_out_1 rfl ?_
  refine JW.mputI dX3_out_2 (pX3_77 _) rfl ?_
  refine JW.steq (s2 := sS (sS (sS (sS (sA (sA (sA (sA (sA (sA (sA (sA (sA s 11 f11) 12 f12) 13 f13) 14 f14) 15 f15) 16 f16) 17 f17) 18 f18) 19 f19) 0 0) 25 k25) 33 k33) 34 k34) (by simp only [sA_A, sS_S, sA_S, sA_lt, sS_lt, Nat.reduceLT, id_eq] <;> rfl) ?_
  refine JW.aload_n dX3_out_5 rfl ?_
  refine JW.iload_n dX3_out_6 rfl ?_
  refine JW.iload_n dX3_out_7 rfl ?_
  refine JW.mcall (As := [vI x1, vI x2]) dX3_out_8 vX3_isCrowd rfl q1985 (ctX3_isCrowd b (sS (sS (sS (sS (sA (sA (sA (sA (sA (sA (sA (sA (sA s 11 f11) 12 f12) 13 f13) 14 f14) 15 f15) 16 f16) 17 f17) 18 f18) 19 f19) 0 0) 25 k25) 33 k33) 34 k34) x1 x2) (Nat.le_of_ble_eq_true rfl) rfl (Nat.le_of_ble_eq_true rfl) ?_
  rintro _ _ ⟨rfl, eq_1⟩
  refine JW.steq (s2 := sS (sS (sS (sS (sA (sA (sA (sA (sA (sA (sA (sA (sA s 11 f11) 12 f12) 13 f13) 14 f14) 15 f15) 16 f16) 17 f17) 18 f18) 19 f19) 0 0) 25 k25) 33 k33) 34 k34) eq_1 ?_
  refine JW.if_eq (tgt := 39) dX3_out_11 rfl (fun c_2 => ?_) (fun c_2 => ?_)
  · have K := K.1 c_2
    refine JW.bipush dX3_out_39 rfl ?_
    exact JW.ireturn dX3_out_41 rfl rfl ⟨_, rfl, K⟩
  · have K := K.2 c_2
    refine JW.iload_n dX3_out_14 rfl ?_
    refine JW.i2l dX3_out_15 ?_
    refine JW.lconst (x := 0) dX3_out_16 rfl ?_
    refine JW.aload_n dX3_out_17 rfl ?_
    refine JW.mget (v := vR 358) dX3_out_18 fX3_34 rfl ?_
    refine JW.iconst dX3_out_21 rfl ?_
    refine JW.mald 6 (x := (s.2 6 2)) dX3_out_22 (Nat.le_of_ble_eq_true rfl) rfl (by decide) (by decide) rfl ?_
    refine JW.aload_n dX3_out_23 rfl ?_
    refine JW.mget (v := vR 358) dX3_out_24 fX3_34 rfl ?_
    refine JW.iconst dX3_out_27 rfl ?_
    refine JW.mald 6 (x := (s.2 6 0)) dX3_out_28 (Nat.le_of_ble_eq_true rfl) rfl (by decide) (by decide) rfl ?_
    obtain ⟨o_3, K⟩ := K
    refine JW.idiv dX3_out_29 o_3 ?_
    refine JW.iconst dX3_out_30 rfl ?_
    refine JW.isub dX3_out_31 ?_
    refine JW.i2l dX3_out_32 ?_
    refine JW.mcallS (As := [vL x3, vL 0, vL (i32 ((i32 (Int.tdiv (s.2 6 2) (s.2 6 0))) - 1))]) dX3_out_33 vX3_in q1632 (ctX3_in b (sS (sS (sS (sS (sA (sA (sA (sA (sA (sA (sA (sA (sA s 11 f11) 12 f12) 13 f13) 14 f14) 15 f15) 16 f16) 17 f17) 18 f18) 19 f19) 0 0) 25 k25) 33 k33) 34 k34) x3 0 (i32 ((i32 (Int.tdiv (s.2 6 2) (s.2 6 0))) - 1))) (Nat.le_of_ble_eq_true rfl) rfl (Nat.le_of_ble_eq_true rfl) ?_
    rintro _ _ ⟨rfl, eq_4⟩
    refine JW.steq (s2 := sS (sS (sS (sS (sA (sA (sA (sA (sA (sA (sA (sA (sA s 11 f11) 12 f12) 13 f13) 14 f14) 15 f15) 16 f16) 17 f17) 18 f18) 19 f19) 0 0) 25 k25) 33 k33) 34 k34) eq_4 ?_
    refine JW.if_ne (tgt := 42) dX3_out_36 rfl (fun c_5 => ?_) (fun c_5 => ?_)
    · have K := K.1 c_5
      refine JW.aload_n dX3_out_42 rfl ?_
      refine JW.iload_n dX3_out_43 rfl ?_
      refine JW.iload_n dX3_out_44 rfl ?_
      obtain ⟨o_6, K⟩ := K
      refine JW.mcall (As := [vI x1, vI x2]) dX3_out_45 vX3_crowdsBehind rfl q1989 (ctX3_crowdsBehind b (sS (sS (sS (sS (sA (sA (sA (sA (sA (sA (sA (sA (sA s 11 f11) 12 f12) 13 f13) 14 f14) 15 f15) 16 f16) 17 f17) 18 f18) 19 f19) 0 0) 25 k25) 33 k33) 34 k34) x1 x2 o_6) (Nat.le_of_ble_eq_true rfl) rfl (Nat.le_of_ble_eq_true rfl) ?_
      rintro _ _ ⟨f_7, f_8, f_9, f_10, f_11, k_12, rfl, rfl, q_13⟩
      refine JW.steq (s2 := sS (sS (sS (sS (sA (sA (sA (sA (sA (sA (sA (sA (sA s 11 f_7) 12 f_8) 13 f_9) 14 f14) 15 f15) 16 f16) 17 f17) 18 f_10) 19 f_11) 0 0) 25 k_12) 33 k33) 34 k34) (by simp only [sA_A, sS_S, sA_S, sA_lt, sS_lt, Nat.reduceLT, id_eq] <;> rfl) ?_
      replace K := K f_7 f_8 f_9 f_10 f_11 k_12 q_13
      refine JW.iconst dX3_out_48 rfl ?_
      refine JW.istore (ls' := [(0, vR 351), (1, vI x1), (2, vI x2), (3, vI x3), (4, vI 0)]) dX3_out_49 (Nat.le_of_ble_eq_true rfl) rfl ?_
      refine JW.iconst dX3_out_51 rfl ?_
      refine JW.istore (ls' := [(0, vR 351), (1, vI x1), (2, vI x2), (3, vI x3), (4, vI 0), (5, vI 0)]) dX3_out_52 (Nat.le_of_ble_eq_true rfl) rfl ?_
      exact JW.pick [0, 3, 4, 5] rfl K
    · have K := K.2 c_5
      refine JW.bipush dX3_out_39 rfl ?_
      exact JW.ireturn dX3_out_41 rfl rfl ⟨_, rfl, K⟩
theorem bX3_out_54 {Q : Option AV → MS → Prop} (b : AH) (s : MS) (x3 : Int) (x4 : Int) (x5 : Int) (f11 : Int → Int) (f12 : Int → Int) (f13 : Int → Int) (f14 : Int → Int) (f15 : Int → Int) (f16 : Int → Int) (f17 : Int → Int) (f18 : Int → Int) (f19 : Int → Int) (k0 : Int) (k25 : Int) (k33 : Int) (k34 : Int) (K : ((s.2 6 2) ≤ x5 → Q (some (vI x4)) (sS (sS (sS (sS (sA (sA (sA (sA (sA (sA (sA (sA (sA s 11 f11) 12 f12) 13 f13) 14 f14) 15 f15) 16 f16) 17 f17) 18 f18) 19 f19) 0 k0) 25 k25) 33 k33) 34 k34)) ∧ (¬ (s.2 6 2) ≤ x5 → (0 ≤ x5 ∧ x5 < 10000) ∧ ((¬ (f18 x5) = 0 → (tOK (s.2 6) ∧ 0 ≤ x5 ∧ x5 ≤ 100000) ∧ (HX3_out_87 Q b s x3 x4 x5 0 (figs ((s.2 6) 0) ((s.2 6) 1) x5 f11) f12 f13 f14 f15 f16 f17 f18 f19 k0 k25 k33 k34)) ∧ ((f18 x5) = 0 → HX3_out_54 Q b s x3 x4 (i32 (x5 + 1)) f11 f12 f13 f14 f15 f16 f17 f18 f19 k0 k25 k33 k34)))) : HX3_out_54 Q b s x3 x4 x5 f11 f12 f13 f14 f15 f16 f17 f18 f19 k0 k25 k33 k34 := by
  refine JW.iload dX3_out_54 rfl ?_
  refine JW.aload_n dX3_out_56 rfl ?_
  refine JW.mget (v := vR 358) dX3_out_57 fX3_34 rfl ?_
  refine JW.iconst dX3_out_60 rfl ?_
  refine JW.mald 6 (x := (s.2 6 2)) dX3_out_61 (Nat.le_of_ble_eq_true rfl) rfl (by decide) (by decide) rfl ?_
  refine JW.icmp_ge (tgt := 179) dX3_out_62 rfl (fun c_1 => ?_) (fun c_1 => ?_)
  · have K := K.1 c_1
    refine JW.iload dX3_out_179 rfl ?_
    exact JW.ireturn dX3_out_181 rfl rfl ⟨_, rfl, K⟩
  · have K := K.2 c_1
    refine JW.aload_n dX3_out_65 rfl ?_
    refine JW.mget (v := vR 370) dX3_out_66 fX3_71 rfl ?_
    refine JW.iload dX3_out_69 rfl ?_
    obtain ⟨o_2, K⟩ := K
    refine JW.mzld 18 (x := (f18 x5)) dX3_out_71 (Nat.le_of_ble_eq_true rfl) rfl o_2.1 o_2.2 rfl ?_
    refine JW.if_ne (tgt := 78) dX3_out_72 rfl (fun c_3 => ?_) (fun c_3 => ?_)
    · have K := K.1 c_3
      refine JW.aload_n dX3_out_78 rfl ?_
      refine JW.iload dX3_out_79 rfl ?_
      obtain ⟨o_4, K⟩ := K
      refine JW.mcall (As := [vI x5]) dX3_out_81 vX3_figures rfl q1810 (ctX3_figures b (sS (sS (sS (sS (sA (sA (sA (sA (sA (sA (sA (sA (sA s 11 f11) 12 f12) 13 f13) 14 f14) 15 f15) 16 f16) 17 f17) 18 f18) 19 f19) 0 k0) 25 k25) 33 k33) 34 k34) x5 o_4) (Nat.le_of_ble_eq_true rfl) rfl (Nat.le_of_ble_eq_true rfl) ?_
      rintro _ _ ⟨rfl, rfl⟩
      refine JW.steq (s2 := sS (sS (sS (sS (sA (sA (sA (sA (sA (sA (sA (sA (sA s 11 (figs ((s.2 6) 0) ((s.2 6) 1) x5 f11)) 12 f12) 13 f13) 14 f14) 15 f15) 16 f16) 17 f17) 18 f18) 19 f19) 0 k0) 25 k25) 33 k33) 34 k34) (by simp only [sA_A, sS_S, sA_S, sA_lt, sS_lt, Nat.reduceLT, id_eq] <;> rfl) ?_
      refine JW.iconst dX3_out_84 rfl ?_
      refine JW.istore (ls' := [(0, vR 351), (3, vI x3), (4, vI x4), (5, vI x5), (6, vI 0)]) dX3_out_85 (Nat.le_of_ble_eq_true rfl) rfl ?_
      exact JW.pick [0, 3, 4, 5, 6] rfl K
    · have K := K.2 c_3
      refine JW.goto (tgt := 173) dX3_out_75 rfl ?_
      refine JW.iinc (ls' := [(0, vR 351), (3, vI x3), (4, vI x4), (5, vI (i32 (x5 + 1)))]) dX3_out_173 (Nat.le_of_ble_eq_true rfl) rfl rfl ?_
      refine JW.goto (tgt := 54) dX3_out_176 rfl ?_
      exact JW.pick [0, 3, 4, 5] rfl K
theorem bX3_out_87 {Q : Option AV → MS → Prop} (b : AH) (s : MS) (x3 : Int) (x4 : Int) (x5 : Int) (x6 : Int) (f11 : Int → Int) (f12 : Int → Int) (f13 : Int → Int) (f14 : Int → Int) (f15 : Int → Int) (f16 : Int → Int) (f17 : Int → Int) (f18 : Int → Int) (f19 : Int → Int) (k0 : Int) (k25 : Int) (k33 : Int) (k34 : Int) (K : ((s.2 6 1) ≤ x6 → HX3_out_54 Q b s x3 x4 (i32 (x5 + 1)) f11 f12 f13 f14 f15 f16 f17 f18 f19 k0 k25 k33 k34) ∧ (¬ (s.2 6 1) ≤ x6 → HX3_out_104 Q b s x3 x4 x5 x6 0 0 f11 f12 f13 f14 f15 f16 f17 f18 f19 k0 k25 k33 k34)) : HX3_out_87 Q b s x3 x4 x5 x6 f11 f12 f13 f14 f15 f16 f17 f18 f19 k0 k25 k33 k34 := by
  refine JW.iload dX3_out_87 rfl ?_
  refine JW.aload_n dX3_out_89 rfl ?_
  refine JW.mget (v := vR 358) dX3_out_90 fX3_34 rfl ?_
  refine JW.iconst dX3_out_93 rfl ?_
  refine JW.mald 6 (x := (s.2 6 1)) dX3_out_94 (Nat.le_of_ble_eq_true rfl) rfl (by decide) (by decide) rfl ?_
  refine JW.icmp_ge (tgt := 173) dX3_out_95 rfl (fun c_1 => ?_) (fun c_1 => ?_)
  · have K := K.1 c_1
    refine JW.iinc (ls' := [(0, vR 351), (3, vI x3), (4, vI x4), (5, vI (i32 (x5 + 1))), (6, vI x6)]) dX3_out_173 (Nat.le_of_ble_eq_true rfl) rfl rfl ?_
    refine JW.goto (tgt := 54) dX3_out_176 rfl ?_
    exact JW.pick [0, 3, 4, 5] rfl K
  · have K := K.2 c_1
    refine JW.iconst dX3_out_98 rfl ?_
    refine JW.istore (ls' := [(0, vR 351), (3, vI x3), (4, vI x4), (5, vI x5), (6, vI x6), (7, vI 0)]) dX3_out_99 (Nat.le_of_ble_eq_true rfl) rfl ?_
    refine JW.iconst dX3_out_101 rfl ?_
    refine JW.istore (ls' := [(0, vR 351), (3, vI x3), (4, vI x4), (5, vI x5), (6, vI x6), (7, vI 0), (8, vI 0)]) dX3_out_102 (Nat.le_of_ble_eq_true rfl) rfl ?_
    exact JW.pick [0, 3, 4, 5, 6, 7, 8] rfl K
theorem bX3_out_104 {Q : Option AV → MS → Prop} (b : AH) (s : MS) (x3 : Int) (x4 : Int) (x5 : Int) (x6 : Int) (x7 : Int) (x8 : Int) (f11 : Int → Int) (f12 : Int → Int) (f13 : Int → Int) (f14 : Int → Int) (f15 : Int → Int) (f16 : Int → Int) (f17 : Int → Int) (f18 : Int → Int) (f19 : Int → Int) (k0 : Int) (k25 : Int) (k33 : Int) (k34 : Int) (K : ((s.2 6 1) ≤ x8 → (¬ x7 = x3 → HX3_out_87 Q b s x3 x4 x5 (i32 (x6 + 1)) f11 f12 f13 f14 f15 f16 f17 f18 f19 k0 k25 k33 k34) ∧ (x7 = x3 → (0 ≤ x6 ∧ x6 < 8) ∧ (HX3_out_87 Q b s x3 (jor x4 (jshl 1 (f11 x6))) x5 (i32 (x6 + 1)) f11 f12 f13 f14 f15 f16 f17 f18 f19 k0 k25 k33 k34))) ∧ (¬ (s.2 6 1) ≤ x8 → (x8 = x6 → HX3_out_104 Q b s x3 x4 x5 x6 x7 (i32 (x8 + 1)) f11 f12 f13 f14 f15 f16 f17 f18 f19 k0 k25 k33 k34) ∧ (¬ x8 = x6 → (0 ≤ x8 ∧ x8 < 8) ∧ (HX3_out_104 Q b s x3 x4 x5 x6 (i32 ((i32 (x7 * (s.2 6 0))) + (f11 x8))) (i32 (x8 + 1)) f11 f12 f13 f14 f15 f16 f17 f18 f19 k0 k25 k33 k34)))) : HX3_out_104 Q b s x3 x4 x5 x6 x7 x8 f11 f12 f13 f14 f15 f16 f17 f18 f19 k0 k25 k33 k34 := by
  refine JW.iload dX3_out_104 rfl ?_
  refine JW.aload_n dX3_out_106 rfl ?_
  refine JW.mget (v := vR 358) dX3_out_107 fX3_34 rfl ?_
  refine JW.iconst dX3_out_110 rfl ?_
  refine JW.mald 6 (x := (s.2 6 1)) dX3_out_111 (Nat.le_of_ble_eq_true rfl) rfl (by decide) (by decide) rfl ?_
  refine JW.icmp_ge (tgt := 147) dX3_out_112 rfl (fun c_1 => ?_) (fun c_1 => ?_)
  · have K := K.1 c_1
    refine JW.iload dX3_out_147 rfl ?_
    refine JW.iload_n dX3_out_149 rfl ?_
    refine JW.icmp_ne (tgt := 167) dX3_out_150 rfl (fun c_2 => ?_) (fun c_2 => ?_)
    · have K := K.1 c_2
      refine JW.iinc (ls' := [(0, vR 351), (3, vI x3), (4, vI x4), (5, vI x5), (6, vI (i32 (x6 + 1))), (7, vI x7), (8, vI x8)]) dX3_out_167 (Nat.le_of_ble_eq_true rfl) rfl rfl ?_
      refine JW.goto (tgt := 87) dX3_out_170 rfl ?_
      exact JW.pick [0, 3, 4, 5, 6] rfl K
    · have K := K.2 c_2
      refine JW.iload dX3_out_153 rfl ?_
      refine JW.iconst dX3_out_155 rfl ?_
      refine JW.aload_n dX3_out_156 rfl ?_
      refine JW.mget (v := vR 363) dX3_out_157 fX3_50 rfl ?_
      refine JW.iload dX3_out_160 rfl ?_
      obtain ⟨o_3, K⟩ := K
      refine JW.mald 11 (x := (f11 x6)) dX3_out_162 (Nat.le_of_ble_eq_true rfl) rfl o_3.1 o_3.2 rfl ?_
      refine JW.ishl dX3_out_163 ?_
      refine JW.ior dX3_out_164 ?_
      refine JW.istore (ls' := [(0, vR 351), (3, vI x3), (4, vI (jor x4 (jshl 1 (f11 x6)))), (5, vI x5), (6, vI x6), (7, vI x7), (8, vI x8)]) dX3_out_165 (Nat.le_of_ble_eq_true rfl) rfl ?_
      refine JW.iinc (ls' := [(0, vR 351), (3, vI x3), (4, vI (jor x4 (jshl 1 (f11 x6)))), (5, vI x5), (6, vI (i32 (x6 + 1))), (7, vI x7), (8, vI x8)]) dX3_out_167 (Nat.le_of_ble_eq_true rfl) rfl rfl ?_
      refine JW.goto (tgt := 87) dX3_out_170 rfl ?_
      exact JW.pick [0, 3, 4, 5, 6] rfl K
  · have K := K.2 c_1
    refine JW.iload dX3_out_115 rfl ?_
    refine JW.iload dX3_out_117 rfl ?_
    refine JW.icmp_eq (tgt := 141) dX3_out_119 rfl (fun c_4 => ?_) (fun c_4 => ?_)
    · have K := K.1 c_4
      refine JW.iinc (ls' := [(0, vR 351), (3, vI x3), (4, vI x4), (5, vI x5), (6, vI x6), (7, vI x7), (8, vI (i32 (x8 + 1)))]) dX3_out_141 (Nat.le_of_ble_eq_true rfl) rfl rfl ?_
      refine JW.goto (tgt := 104) dX3_out_144 rfl ?_
      exact JW.pick [0, 3, 4, 5, 6, 7, 8] rfl K
    · have K := K.2 c_4
      refine JW.iload dX3_out_122 rfl ?_
      refine JW.aload_n dX3_out_124 rfl ?_
      refine JW.mget (v := vR 358) dX3_out_125 fX3_34 rfl ?_
      refine JW.iconst dX3_out_128 rfl ?_
      refine JW.mald 6 (x := (s.2 6 0)) dX3_out_129 (Nat.le_of_ble_eq_true rfl) rfl (by decide) (by decide) rfl ?_
      refine JW.imul dX3_out_130 ?_
      refine JW.aload_n dX3_out_131 rfl ?_
      refine JW.mget (v := vR 363) dX3_out_132 fX3_50 rfl ?_
      refine JW.iload dX3_out_135 rfl ?_
      obtain ⟨o_5, K⟩ := K
      refine JW.mald 11 (x := (f11 x8)) dX3_out_137 (Nat.le_of_ble_eq_true rfl) rfl o_5.1 o_5.2 rfl ?_
      refine JW.iadd dX3_out_138 ?_
      refine JW.istore (ls' := [(0, vR 351), (3, vI x3), (4, vI x4), (5, vI x5), (6, vI x6), (7, vI (i32 ((i32 (x7 * (s.2 6 0))) + (f11 x8)))), (8, vI x8)]) dX3_out_139 (Nat.le_of_ble_eq_true rfl) rfl ?_
      refine JW.iinc (ls' := [(0, vR 351), (3, vI x3), (4, vI x4), (5, vI x5), (6, vI x6), (7, vI (i32 ((i32 (x7 * (s.2 6 0))) + (f11 x8)))), (8, vI (i32 (x8 + 1)))]) dX3_out_141 (Nat.le_of_ble_eq_true rfl) rfl rfl ?_
      refine JW.goto (tgt := 104) dX3_out_144 rfl ?_
      exact JW.pick [0, 3, 4, 5, 6, 7, 8] rfl K
def QX3_out (s : MS) (a1 : Int) (a2 : Int) (a3 : Int) : Option AV → MS → Prop := fun v s' => ∃ (f11 : Int → Int) (f12 : Int → Int) (f13 : Int → Int) (f14 : Int → Int) (f15 : Int → Int) (f16 : Int → Int) (f17 : Int → Int) (f18 : Int → Int) (f19 : Int → Int) (k25 : Int) (k33 : Int) (k34 : Int), v = some (vI (rOut ((s.2 5) 0) (s.2 6) (s.2 7) (s.2 9) a1 a2 a3)) ∧ s' = sS (sS (sS (sS (sA (sA (sA (sA (sA (sA (sA (sA (sA s 11 f11) 12 f12) 13 f13) 14 f14) 15 f15) 16 f16) 17 f17) 18 f18) 19 f19) 0 (0)) 25 k25) 33 k33) 34 k34
theorem vX3_out_1 (s : MS) (a1 : Int) (a2 : Int) (a3 : Int) (hp : tOK (s.2 6) ∧ aOK (s.2 6) (s.2 7) ∧ lOK ((s.2 5) 0) (s.2 6)) (x3 : Int) (x4 : Int) (x5 : Int) (f11 : Int → Int) (f12 : Int → Int) (f13 : Int → Int) (f14 : Int → Int) (f15 : Int → Int) (f16 : Int → Int) (f17 : Int → Int) (f18 : Int → Int) (f19 : Int → Int) (k0 : Int) (k25 : Int) (k33 : Int) (k34 : Int) (hI : k0 = 0 ∧ NXO (s.2 6) (s.2 7) f13 ∧ BS f18 (s.2 6 2) (crS (s.2 6) (s.2 7) (s.2 9) a1 a2.toNat) ∧ ((0 < s.2 5 0 ∧ (0 ≤ a1 ∧ a1 ≤ 3) ∧ 0 ≤ a2 ∧ a2 ≤ 200) ∧ x3 = a3 ∧ 0 ≤ a3 ∧ a3 ≤ s.2 6 2 / s.2 6 0 - 1) ∧ (0 ≤ x5 ∧ x5 ≤ s.2 6 2) ∧ isBits (outX (s.2 6) (crS (s.2 6) (s.2 7) (s.2 9) a1 a2.toNat) a3 x5) x4) (c_1 : (s.2 6 2) ≤ x5) : k0 = (0) := by
  obtain ⟨ht, ha, hl⟩ := hp
  have hN := tOK_N ht
  have hL := tOK_L ht
  (try simp only [bI_0, bI_n, Classical.not_not] at *)
  (try have hN2 : 0 < s.2 6 2 := lOK_N ht hl (by omega))
  (try have hq := ‹NXO _ _ _ ∧ BS _ _ _›)
  (try have hq := And.intro hI.2.1 hI.2.2.1)
  (try have hb0 := hl.2.mp (by omega))
  (try (have hdv := i32_dv (N := s.2 6 2) (B := s.2 6 0) (by omega) (by omega) hb0; rw [hdv] at c_5))
  (try (have hd := dig_in' (x := x5) ht))
  (try have hdk := hd x6 (by omega) (by omega))
  (try have hsk := skp_ub (d := x6) ht hd (n := x8.toNat) (by omega))
  (try unfold lex3)
  (try simp only [bI_0, bI_n, Classical.not_not] at *)
  (try simp (disch := omega) only [i32_id] at *)
  first | done | omega | ((repeat' (with_reducible apply And.intro)) <;> first | assumption | rfl | omega | (exact hI.1) | (exact hq.1) | (exact hq.2) | (unfold rOut; rw [if_neg (by omega)]) | (exact BS_01 hq.2) | (unfold rOut; rw [if_pos (by omega)]; exact bits_eq (by rw [show s.2 6 2 = x5 by omega]; exact hI.2.2.2.2.2)) | (exact isBits_e hI.2.2.2.2.2 (fun g => ⟨fun h => h.elim id (fun q => absurd q outZ_0), Or.inl⟩)) | (exact (BS_cr hq.2 x5).mp ⟨⟨by omega, by omega⟩, (BS_01 hq.2 x5 (by omega) (by omega)).resolve_left c_3⟩) | (intro i h0 h1; exact figs_at h0 h1) | (exact isBits_e hI.2.2.2.2.2 (fun g => outX_n (fun q => by have := ((BS_cr hq.2 x5).mpr q).2; omega))) | (exact isBits_e hI.2.2.2.2.2.1 (fun g => (outX_y (by omega) hI.2.2.2.2.2.2.1).trans (by rw [show s.2 6 1 = x6 by omega]))) | (exact hI.2.2.2.2.2.1) | (exact hI.2.2.2.2.2.2.1) | (exact hI.2.2.2.2.2.2.2.2) | (exact hI.2.2.2.2.2.2.2.2.1) | (exact isBits_e hI.2.2.2.2.2.1 (fun g => or_congr Iff.rfl (outZ_n (by rw [show (s.2 6 1).toNat = x8.toNat by omega, ← hI.2.2.2.2.2.2.2.2.2.2]; omega)))) | (rw [hI.2.2.2.2.2.2.2.2.1 x6 (by omega) (by omega)]; exact isBits_s hI.2.2.2.2.2.1 hdk.1 (by have := tOK_B ht; omega) (fun g => (or_congr Iff.rfl (outZ_y (by omega) (by rw [show (s.2 6 1).toNat = x8.toNat by omega, ← hI.2.2.2.2.2.2.2.2.2.2]; omega))).trans or_assoc.symm)) | (rw [hI.2.2.2.2.2.2.2.2.2.2]; exact skp_skip (by omega) (by omega)) | (rw [hI.2.2.2.2.2.2.2.2.2.2, hI.2.2.2.2.2.2.2.2.1 x8 (by omega) (by omega)]; exact skp_step ht hd (by omega) (by omega) (by assumption)) | (exact isBits_0 (fun f _ _ => outX_0)) | grind [upI])
theorem vX3_out_2 (s : MS) (a1 : Int) (a2 : Int) (a3 : Int) (hp : tOK (s.2 6) ∧ aOK (s.2 6) (s.2 7) ∧ lOK ((s.2 5) 0) (s.2 6)) (x3 : Int) (x4 : Int) (x5 : Int) (f11 : Int → Int) (f12 : Int → Int) (f13 : Int → Int) (f14 : Int → Int) (f15 : Int → Int) (f16 : Int → Int) (f17 : Int → Int) (f18 : Int → Int) (f19 : Int → Int) (k0 : Int) (k25 : Int) (k33 : Int) (k34 : Int) (hI : k0 = 0 ∧ NXO (s.2 6) (s.2 7) f13 ∧ BS f18 (s.2 6 2) (crS (s.2 6) (s.2 7) (s.2 9) a1 a2.toNat) ∧ ((0 < s.2 5 0 ∧ (0 ≤ a1 ∧ a1 ≤ 3) ∧ 0 ≤ a2 ∧ a2 ≤ 200) ∧ x3 = a3 ∧ 0 ≤ a3 ∧ a3 ≤ s.2 6 2 / s.2 6 0 - 1) ∧ (0 ≤ x5 ∧ x5 ≤ s.2 6 2) ∧ isBits (outX (s.2 6) (crS (s.2 6) (s.2 7) (s.2 9) a1 a2.toNat) a3 x5) x4) (c_1 : (s.2 6 2) ≤ x5) : x4 = (rOut ((s.2 5) 0) (s.2 6) (s.2 7) (s.2 9) a1 a2 a3) := by
  obtain ⟨ht, ha, hl⟩ := hp
  have hN := tOK_N ht
  have hL := tOK_L ht
  (try simp only [bI_0, bI_n, Classical.not_not] at *)
  (try have hN2 : 0 < s.2 6 2 := lOK_N ht hl (by omega))
  (try have hq := ‹NXO _ _ _ ∧ BS _ _ _›)
  (try have hq := And.intro hI.2.1 hI.2.2.1)
  (try have hb0 := hl.2.mp (by omega))
  (try (have hdv := i32_dv (N := s.2 6 2) (B := s.2 6 0) (by omega) (by omega) hb0; rw [hdv] at c_5))
  (try (have hd := dig_in' (x := x5) ht))
  (try have hdk := hd x6 (by omega) (by omega))
  (try have hsk := skp_ub (d := x6) ht hd (n := x8.toNat) (by omega))
  (try unfold lex3)
  (try simp only [bI_0, bI_n, Classical.not_not] at *)
  (try simp (disch := omega) only [i32_id] at *)
  first | done | omega | ((repeat' (with_reducible apply And.intro)) <;> first | assumption | rfl | omega | (exact hI.1) | (exact hq.1) | (exact hq.2) | (unfold rOut; rw [if_neg (by omega)]) | (exact BS_01 hq.2) | (unfold rOut; rw [if_pos (by omega)]; exact bits_eq (by rw [show s.2 6 2 = x5 by omega]; exact hI.2.2.2.2.2)) | (exact isBits_e hI.2.2.2.2.2 (fun g => ⟨fun h => h.elim id (fun q => absurd q outZ_0), Or.inl⟩)) | (exact (BS_cr hq.2 x5).mp ⟨⟨by omega, by omega⟩, (BS_01 hq.2 x5 (by omega) (by omega)).resolve_left c_3⟩) | (intro i h0 h1; exact figs_at h0 h1) | (exact isBits_e hI.2.2.2.2.2 (fun g => outX_n (fun q => by have := ((BS_cr hq.2 x5).mpr q).2; omega))) | (exact isBits_e hI.2.2.2.2.2.1 (fun g => (outX_y (by omega) hI.2.2.2.2.2.2.1).trans (by rw [show s.2 6 1 = x6 by omega]))) | (exact hI.2.2.2.2.2.1) | (exact hI.2.2.2.2.2.2.1) | (exact hI.2.2.2.2.2.2.2.2) | (exact hI.2.2.2.2.2.2.2.2.1) | (exact isBits_e hI.2.2.2.2.2.1 (fun g => or_congr Iff.rfl (outZ_n (by rw [show (s.2 6 1).toNat = x8.toNat by omega, ← hI.2.2.2.2.2.2.2.2.2.2]; omega)))) | (rw [hI.2.2.2.2.2.2.2.2.1 x6 (by omega) (by omega)]; exact isBits_s hI.2.2.2.2.2.1 hdk.1 (by have := tOK_B ht; omega) (fun g => (or_congr Iff.rfl (outZ_y (by omega) (by rw [show (s.2 6 1).toNat = x8.toNat by omega, ← hI.2.2.2.2.2.2.2.2.2.2]; omega))).trans or_assoc.symm)) | (rw [hI.2.2.2.2.2.2.2.2.2.2]; exact skp_skip (by omega) (by omega)) | (rw [hI.2.2.2.2.2.2.2.2.2.2, hI.2.2.2.2.2.2.2.2.1 x8 (by omega) (by omega)]; exact skp_step ht hd (by omega) (by omega) (by assumption)) | (exact isBits_0 (fun f _ _ => outX_0)) | grind [upI])
theorem vX3_out_3 (s : MS) (a1 : Int) (a2 : Int) (a3 : Int) (hp : tOK (s.2 6) ∧ aOK (s.2 6) (s.2 7) ∧ lOK ((s.2 5) 0) (s.2 6)) (x3 : Int) (x4 : Int) (x5 : Int) (f11 : Int → Int) (f12 : Int → Int) (f13 : Int → Int) (f14 : Int → Int) (f15 : Int → Int) (f16 : Int → Int) (f17 : Int → Int) (f18 : Int → Int) (f19 : Int → Int) (k0 : Int) (k25 : Int) (k33 : Int) (k34 : Int) (hI : k0 = 0 ∧ NXO (s.2 6) (s.2 7) f13 ∧ BS f18 (s.2 6 2) (crS (s.2 6) (s.2 7) (s.2 9) a1 a2.toNat) ∧ ((0 < s.2 5 0 ∧ (0 ≤ a1 ∧ a1 ≤ 3) ∧ 0 ≤ a2 ∧ a2 ≤ 200) ∧ x3 = a3 ∧ 0 ≤ a3 ∧ a3 ≤ s.2 6 2 / s.2 6 0 - 1) ∧ (0 ≤ x5 ∧ x5 ≤ s.2 6 2) ∧ isBits (outX (s.2 6) (crS (s.2 6) (s.2 7) (s.2 9) a1 a2.toNat) a3 x5) x4) (c_1 : ¬ (s.2 6 2) ≤ x5) : (0 ≤ x5 ∧ x5 < 10000) := by
  obtain ⟨ht, ha, hl⟩ := hp
  have hN := tOK_N ht
  have hL := tOK_L ht
  (try simp only [bI_0, bI_n, Classical.not_not] at *)
  (try have hN2 : 0 < s.2 6 2 := lOK_N ht hl (by omega))
  (try have hq := ‹NXO _ _ _ ∧ BS _ _ _›)
  (try have hq := And.intro hI.2.1 hI.2.2.1)
  (try have hb0 := hl.2.mp (by omega))
  (try (have hdv := i32_dv (N := s.2 6 2) (B := s.2 6 0) (by omega) (by omega) hb0; rw [hdv] at c_5))
  (try (have hd := dig_in' (x := x5) ht))
  (try have hdk := hd x6 (by omega) (by omega))
  (try have hsk := skp_ub (d := x6) ht hd (n := x8.toNat) (by omega))
  (try unfold lex3)
  (try simp only [bI_0, bI_n, Classical.not_not] at *)
  (try simp (disch := omega) only [i32_id] at *)
  first | done | omega | ((repeat' (with_reducible apply And.intro)) <;> first | assumption | rfl | omega | (exact hI.1) | (exact hq.1) | (exact hq.2) | (unfold rOut; rw [if_neg (by omega)]) | (exact BS_01 hq.2) | (unfold rOut; rw [if_pos (by omega)]; exact bits_eq (by rw [show s.2 6 2 = x5 by omega]; exact hI.2.2.2.2.2)) | (exact isBits_e hI.2.2.2.2.2 (fun g => ⟨fun h => h.elim id (fun q => absurd q outZ_0), Or.inl⟩)) | (exact (BS_cr hq.2 x5).mp ⟨⟨by omega, by omega⟩, (BS_01 hq.2 x5 (by omega) (by omega)).resolve_left c_3⟩) | (intro i h0 h1; exact figs_at h0 h1) | (exact isBits_e hI.2.2.2.2.2 (fun g => outX_n (fun q => by have := ((BS_cr hq.2 x5).mpr q).2; omega))) | (exact isBits_e hI.2.2.2.2.2.1 (fun g => (outX_y (by omega) hI.2.2.2.2.2.2.1).trans (by rw [show s.2 6 1 = x6 by omega]))) | (exact hI.2.2.2.2.2.1) | (exact hI.2.2.2.2.2.2.1) | (exact hI.2.2.2.2.2.2.2.2) | (exact hI.2.2.2.2.2.2.2.2.1) | (exact isBits_e hI.2.2.2.2.2.1 (fun g => or_congr Iff.rfl (outZ_n (by rw [show (s.2 6 1).toNat = x8.toNat by omega, ← hI.2.2.2.2.2.2.2.2.2.2]; omega)))) | (rw [hI.2.2.2.2.2.2.2.2.1 x6 (by omega) (by omega)]; exact isBits_s hI.2.2.2.2.2.1 hdk.1 (by have := tOK_B ht; omega) (fun g => (or_congr Iff.rfl (outZ_y (by omega) (by rw [show (s.2 6 1).toNat = x8.toNat by omega, ← hI.2.2.2.2.2.2.2.2.2.2]; omega))).trans or_assoc.symm)) | (rw [hI.2.2.2.2.2.2.2.2.2.2]; exact skp_skip (by omega) (by omega)) | (rw [hI.2.2.2.2.2.2.2.2.2.2, hI.2.2.2.2.2.2.2.2.1 x8 (by omega) (by omega)]; exact skp_step ht hd (by omega) (by omega) (by assumption)) | (exact isBits_0 (fun f _ _ => outX_0)) | grind [upI])
theorem vX3_out_4 (s : MS) (a1 : Int) (a2 : Int) (a3 : Int) (hp : tOK (s.2 6) ∧ aOK (s.2 6) (s.2 7) ∧ lOK ((s.2 5) 0) (s.2 6)) (x3 : Int) (x4 : Int) (x5 : Int) (f11 : Int → Int) (f12 : Int → Int) (f13 : Int → Int) (f14 : Int → Int) (f15 : Int → Int) (f16 : Int → Int) (f17 : Int → Int) (f18 : Int → Int) (f19 : Int → Int) (k0 : Int) (k25 : Int) (k33 : Int) (k34 : Int) (hI : k0 = 0 ∧ NXO (s.2 6) (s.2 7) f13 ∧ BS f18 (s.2 6 2) (crS (s.2 6) (s.2 7) (s.2 9) a1 a2.toNat) ∧ ((0 < s.2 5 0 ∧ (0 ≤ a1 ∧ a1 ≤ 3) ∧ 0 ≤ a2 ∧ a2 ≤ 200) ∧ x3 = a3 ∧ 0 ≤ a3 ∧ a3 ≤ s.2 6 2 / s.2 6 0 - 1) ∧ (0 ≤ x5 ∧ x5 ≤ s.2 6 2) ∧ isBits (outX (s.2 6) (crS (s.2 6) (s.2 7) (s.2 9) a1 a2.toNat) a3 x5) x4) (c_1 : ¬ (s.2 6 2) ≤ x5) (o_2 : (0 ≤ x5 ∧ x5 < 10000)) (c_3 : ¬ (f18 x5) = 0) : (tOK (s.2 6) ∧ 0 ≤ x5 ∧ x5 ≤ 100000) := by
  obtain ⟨ht, ha, hl⟩ := hp
  have hN := tOK_N ht
  have hL := tOK_L ht
  (try simp only [bI_0, bI_n, Classical.not_not] at *)
  (try have hN2 : 0 < s.2 6 2 := lOK_N ht hl (by omega))
  (try have hq := ‹NXO _ _ _ ∧ BS _ _ _›)
  (try have hq := And.intro hI.2.1 hI.2.2.1)
  (try have hb0 := hl.2.mp (by omega))
  (try (have hdv := i32_dv (N := s.2 6 2) (B := s.2 6 0) (by omega) (by omega) hb0; rw [hdv] at c_5))
  (try (have hd := dig_in' (x := x5) ht))
  (try have hdk := hd x6 (by omega) (by omega))
  (try have hsk := skp_ub (d := x6) ht hd (n := x8.toNat) (by omega))
  (try unfold lex3)
  (try simp only [bI_0, bI_n, Classical.not_not] at *)
  (try simp (disch := omega) only [i32_id] at *)
  first | done | omega | ((repeat' (with_reducible apply And.intro)) <;> first | assumption | rfl | omega | (exact hI.1) | (exact hq.1) | (exact hq.2) | (unfold rOut; rw [if_neg (by omega)]) | (exact BS_01 hq.2) | (unfold rOut; rw [if_pos (by omega)]; exact bits_eq (by rw [show s.2 6 2 = x5 by omega]; exact hI.2.2.2.2.2)) | (exact isBits_e hI.2.2.2.2.2 (fun g => ⟨fun h => h.elim id (fun q => absurd q outZ_0), Or.inl⟩)) | (exact (BS_cr hq.2 x5).mp ⟨⟨by omega, by omega⟩, (BS_01 hq.2 x5 (by omega) (by omega)).resolve_left c_3⟩) | (intro i h0 h1; exact figs_at h0 h1) | (exact isBits_e hI.2.2.2.2.2 (fun g => outX_n (fun q => by have := ((BS_cr hq.2 x5).mpr q).2; omega))) | (exact isBits_e hI.2.2.2.2.2.1 (fun g => (outX_y (by omega) hI.2.2.2.2.2.2.1).trans (by rw [show s.2 6 1 = x6 by omega]))) | (exact hI.2.2.2.2.2.1) | (exact hI.2.2.2.2.2.2.1) | (exact hI.2.2.2.2.2.2.2.2) | (exact hI.2.2.2.2.2.2.2.2.1) | (exact isBits_e hI.2.2.2.2.2.1 (fun g => or_congr Iff.rfl (outZ_n (by rw [show (s.2 6 1).toNat = x8.toNat by omega, ← hI.2.2.2.2.2.2.2.2.2.2]; omega)))) | (rw [hI.2.2.2.2.2.2.2.2.1 x6 (by omega) (by omega)]; exact isBits_s hI.2.2.2.2.2.1 hdk.1 (by have := tOK_B ht; omega) (fun g => (or_congr Iff.rfl (outZ_y (by omega) (by rw [show (s.2 6 1).toNat = x8.toNat by omega, ← hI.2.2.2.2.2.2.2.2.2.2]; omega))).trans or_assoc.symm)) | (rw [hI.2.2.2.2.2.2.2.2.2.2]; exact skp_skip (by omega) (by omega)) | (rw [hI.2.2.2.2.2.2.2.2.2.2, hI.2.2.2.2.2.2.2.2.1 x8 (by omega) (by omega)]; exact skp_step ht hd (by omega) (by omega) (by assumption)) | (exact isBits_0 (fun f _ _ => outX_0)) | grind [upI])
theorem vX3_out_5 (s : MS) (a1 : Int) (a2 : Int) (a3 : Int) (hp : tOK (s.2 6) ∧ aOK (s.2 6) (s.2 7) ∧ lOK ((s.2 5) 0) (s.2 6)) (x3 : Int) (x4 : Int) (x5 : Int) (f11 : Int → Int) (f12 : Int → Int) (f13 : Int → Int) (f14 : Int → Int) (f15 : Int → Int) (f16 : Int → Int) (f17 : Int → Int) (f18 : Int → Int) (f19 : Int → Int) (k0 : Int) (k25 : Int) (k33 : Int) (k34 : Int) (hI : k0 = 0 ∧ NXO (s.2 6) (s.2 7) f13 ∧ BS f18 (s.2 6 2) (crS (s.2 6) (s.2 7) (s.2 9) a1 a2.toNat) ∧ ((0 < s.2 5 0 ∧ (0 ≤ a1 ∧ a1 ≤ 3) ∧ 0 ≤ a2 ∧ a2 ≤ 200) ∧ x3 = a3 ∧ 0 ≤ a3 ∧ a3 ≤ s.2 6 2 / s.2 6 0 - 1) ∧ (0 ≤ x5 ∧ x5 ≤ s.2 6 2) ∧ isBits (outX (s.2 6) (crS (s.2 6) (s.2 7) (s.2 9) a1 a2.toNat) a3 x5) x4) (c_1 : ¬ (s.2 6 2) ≤ x5) (o_2 : (0 ≤ x5 ∧ x5 < 10000)) (c_3 : ¬ (f18 x5) = 0) (o_4 : (tOK (s.2 6) ∧ 0 ≤ x5 ∧ x5 ≤ 100000)) : k0 = 0 ∧ NXO (s.2 6) (s.2 7) f13 ∧ BS f18 (s.2 6 2) (crS (s.2 6) (s.2 7) (s.2 9) a1 a2.toNat) ∧ ((0 < s.2 5 0 ∧ (0 ≤ a1 ∧ a1 ≤ 3) ∧ 0 ≤ a2 ∧ a2 ≤ 200) ∧ x3 = a3 ∧ 0 ≤ a3 ∧ a3 ≤ s.2 6 2 / s.2 6 0 - 1) ∧ (0 ≤ x5 ∧ x5 < s.2 6 2) ∧ isBits (fun f => outX (s.2 6) (crS (s.2 6) (s.2 7) (s.2 9) a1 a2.toNat) a3 x5 f ∨ outZ (s.2 6) a3 x5 (0 : Int) f) x4 ∧ (crS (s.2 6) (s.2 7) (s.2 9) a1 a2.toNat) x5 ∧ (0 ≤ (0 : Int) ∧ (0 : Int) ≤ s.2 6 1) ∧ ∀ i : Int, 0 ≤ i → i < s.2 6 1 → (figs ((s.2 6) 0) ((s.2 6) 1) x5 f11) i = dig (s.2 6 0) (s.2 6 1) x5 i := by
  obtain ⟨ht, ha, hl⟩ := hp
  have hN := tOK_N ht
  have hL := tOK_L ht
  (try simp only [bI_0, bI_n, Classical.not_not] at *)
  (try have hN2 : 0 < s.2 6 2 := lOK_N ht hl (by omega))
  (try have hq := ‹NXO _ _ _ ∧ BS _ _ _›)
  (try have hq := And.intro hI.2.1 hI.2.2.1)
  (try have hb0 := hl.2.mp (by omega))
  (try (have hdv := i32_dv (N := s.2 6 2) (B := s.2 6 0) (by omega) (by omega) hb0; rw [hdv] at c_5))
  (try (have hd := dig_in' (x := x5) ht))
  (try have hdk := hd x6 (by omega) (by omega))
  (try have hsk := skp_ub (d := x6) ht hd (n := x8.toNat) (by omega))
  (try unfold lex3)
  (try simp only [bI_0, bI_n, Classical.not_not] at *)
  (try simp (disch := omega) only [i32_id] at *)
  first | done | omega | ((repeat' (with_reducible apply And.intro)) <;> first | assumption | rfl | omega | (exact hI.1) | (exact hq.1) | (exact hq.2) | (unfold rOut; rw [if_neg (by omega)]) | (exact BS_01 hq.2) | (unfold rOut; rw [if_pos (by omega)]; exact bits_eq (by rw [show s.2 6 2 = x5 by omega]; exact hI.2.2.2.2.2)) | (exact isBits_e hI.2.2.2.2.2 (fun g => ⟨fun h => h.elim id (fun q => absurd q outZ_0), Or.inl⟩)) | (exact (BS_cr hq.2 x5).mp ⟨⟨by omega, by omega⟩, (BS_01 hq.2 x5 (by omega) (by omega)).resolve_left c_3⟩) | (intro i h0 h1; exact figs_at h0 h1) | (exact isBits_e hI.2.2.2.2.2 (fun g => outX_n (fun q => by have := ((BS_cr hq.2 x5).mpr q).2; omega))) | (exact isBits_e hI.2.2.2.2.2.1 (fun g => (outX_y (by omega) hI.2.2.2.2.2.2.1).trans (by rw [show s.2 6 1 = x6 by omega]))) | (exact hI.2.2.2.2.2.1) | (exact hI.2.2.2.2.2.2.1) | (exact hI.2.2.2.2.2.2.2.2) | (exact hI.2.2.2.2.2.2.2.2.1) | (exact isBits_e hI.2.2.2.2.2.1 (fun g => or_congr Iff.rfl (outZ_n (by rw [show (s.2 6 1).toNat = x8.toNat by omega, ← hI.2.2.2.2.2.2.2.2.2.2]; omega)))) | (rw [hI.2.2.2.2.2.2.2.2.1 x6 (by omega) (by omega)]; exact isBits_s hI.2.2.2.2.2.1 hdk.1 (by have := tOK_B ht; omega) (fun g => (or_congr Iff.rfl (outZ_y (by omega) (by rw [show (s.2 6 1).toNat = x8.toNat by omega, ← hI.2.2.2.2.2.2.2.2.2.2]; omega))).trans or_assoc.symm)) | (rw [hI.2.2.2.2.2.2.2.2.2.2]; exact skp_skip (by omega) (by omega)) | (rw [hI.2.2.2.2.2.2.2.2.2.2, hI.2.2.2.2.2.2.2.2.1 x8 (by omega) (by omega)]; exact skp_step ht hd (by omega) (by omega) (by assumption)) | (exact isBits_0 (fun f _ _ => outX_0)) | grind [upI])
theorem vX3_out_6 (s : MS) (a1 : Int) (a2 : Int) (a3 : Int) (hp : tOK (s.2 6) ∧ aOK (s.2 6) (s.2 7) ∧ lOK ((s.2 5) 0) (s.2 6)) (x3 : Int) (x4 : Int) (x5 : Int) (f11 : Int → Int) (f12 : Int → Int) (f13 : Int → Int) (f14 : Int → Int) (f15 : Int → Int) (f16 : Int → Int) (f17 : Int → Int) (f18 : Int → Int) (f19 : Int → Int) (k0 : Int) (k25 : Int) (k33 : Int) (k34 : Int) (hI : k0 = 0 ∧ NXO (s.2 6) (s.2 7) f13 ∧ BS f18 (s.2 6 2) (crS (s.2 6) (s.2 7) (s.2 9) a1 a2.toNat) ∧ ((0 < s.2 5 0 ∧ (0 ≤ a1 ∧ a1 ≤ 3) ∧ 0 ≤ a2 ∧ a2 ≤ 200) ∧ x3 = a3 ∧ 0 ≤ a3 ∧ a3 ≤ s.2 6 2 / s.2 6 0 - 1) ∧ (0 ≤ x5 ∧ x5 ≤ s.2 6 2) ∧ isBits (outX (s.2 6) (crS (s.2 6) (s.2 7) (s.2 9) a1 a2.toNat) a3 x5) x4) (c_1 : ¬ (s.2 6 2) ≤ x5) (o_2 : (0 ≤ x5 ∧ x5 < 10000)) (c_3 : ¬ (f18 x5) = 0) (o_4 : (tOK (s.2 6) ∧ 0 ≤ x5 ∧ x5 ≤ 100000)) : lex3 ((s.2 6 2 - x5).toNat - 1) ((s.2 6 1 - (0 : Int)).toNat + 1) 0 ((s.2 6 2 - x5).toNat) 0 0 := by
  obtain ⟨ht, ha, hl⟩ := hp
  have hN := tOK_N ht
  have hL := tOK_L ht
  (try simp only [bI_0, bI_n, Classical.not_not] at *)
  (try have hN2 : 0 < s.2 6 2 := lOK_N ht hl (by omega))
  (try have hq := ‹NXO _ _ _ ∧ BS _ _ _›)
  (try have hq := And.intro hI.2.1 hI.2.2.1)
  (try have hb0 := hl.2.mp (by omega))
  (try (have hdv := i32_dv (N := s.2 6 2) (B := s.2 6 0) (by omega) (by omega) hb0; rw [hdv] at c_5))
  (try (have hd := dig_in' (x := x5) ht))
  (try have hdk := hd x6 (by omega) (by omega))
  (try have hsk := skp_ub (d := x6) ht hd (n := x8.toNat) (by omega))
  (try unfold lex3)
  (try simp only [bI_0, bI_n, Classical.not_not] at *)
  (try simp (disch := omega) only [i32_id] at *)
  first | done | omega | ((repeat' (with_reducible apply And.intro)) <;> first | assumption | rfl | omega | (exact hI.1) | (exact hq.1) | (exact hq.2) | (unfold rOut; rw [if_neg (by omega)]) | (exact BS_01 hq.2) | (unfold rOut; rw [if_pos (by omega)]; exact bits_eq (by rw [show s.2 6 2 = x5 by omega]; exact hI.2.2.2.2.2)) | (exact isBits_e hI.2.2.2.2.2 (fun g => ⟨fun h => h.elim id (fun q => absurd q outZ_0), Or.inl⟩)) | (exact (BS_cr hq.2 x5).mp ⟨⟨by omega, by omega⟩, (BS_01 hq.2 x5 (by omega) (by omega)).resolve_left c_3⟩) | (intro i h0 h1; exact figs_at h0 h1) | (exact isBits_e hI.2.2.2.2.2 (fun g => outX_n (fun q => by have := ((BS_cr hq.2 x5).mpr q).2; omega))) | (exact isBits_e hI.2.2.2.2.2.1 (fun g => (outX_y (by omega) hI.2.2.2.2.2.2.1).trans (by rw [show s.2 6 1 = x6 by omega]))) | (exact hI.2.2.2.2.2.1) | (exact hI.2.2.2.2.2.2.1) | (exact hI.2.2.2.2.2.2.2.2) | (exact hI.2.2.2.2.2.2.2.2.1) | (exact isBits_e hI.2.2.2.2.2.1 (fun g => or_congr Iff.rfl (outZ_n (by rw [show (s.2 6 1).toNat = x8.toNat by omega, ← hI.2.2.2.2.2.2.2.2.2.2]; omega)))) | (rw [hI.2.2.2.2.2.2.2.2.1 x6 (by omega) (by omega)]; exact isBits_s hI.2.2.2.2.2.1 hdk.1 (by have := tOK_B ht; omega) (fun g => (or_congr Iff.rfl (outZ_y (by omega) (by rw [show (s.2 6 1).toNat = x8.toNat by omega, ← hI.2.2.2.2.2.2.2.2.2.2]; omega))).trans or_assoc.symm)) | (rw [hI.2.2.2.2.2.2.2.2.2.2]; exact skp_skip (by omega) (by omega)) | (rw [hI.2.2.2.2.2.2.2.2.2.2, hI.2.2.2.2.2.2.2.2.1 x8 (by omega) (by omega)]; exact skp_step ht hd (by omega) (by omega) (by assumption)) | (exact isBits_0 (fun f _ _ => outX_0)) | grind [upI])
theorem vX3_out_7 (s : MS) (a1 : Int) (a2 : Int) (a3 : Int) (hp : tOK (s.2 6) ∧ aOK (s.2 6) (s.2 7) ∧ lOK ((s.2 5) 0) (s.2 6)) (x3 : Int) (x4 : Int) (x5 : Int) (f11 : Int → Int) (f12 : Int → Int) (f13 : Int → Int) (f14 : Int → Int) (f15 : Int → Int) (f16 : Int → Int) (f17 : Int → Int) (f18 : Int → Int) (f19 : Int → Int) (k0 : Int) (k25 : Int) (k33 : Int) (k34 : Int) (hI : k0 = 0 ∧ NXO (s.2 6) (s.2 7) f13 ∧ BS f18 (s.2 6 2) (crS (s.2 6) (s.2 7) (s.2 9) a1 a2.toNat) ∧ ((0 < s.2 5 0 ∧ (0 ≤ a1 ∧ a1 ≤ 3) ∧ 0 ≤ a2 ∧ a2 ≤ 200) ∧ x3 = a3 ∧ 0 ≤ a3 ∧ a3 ≤ s.2 6 2 / s.2 6 0 - 1) ∧ (0 ≤ x5 ∧ x5 ≤ s.2 6 2) ∧ isBits (outX (s.2 6) (crS (s.2 6) (s.2 7) (s.2 9) a1 a2.toNat) a3 x5) x4) (c_1 : ¬ (s.2 6 2) ≤ x5) (o_2 : (0 ≤ x5 ∧ x5 < 10000)) (c_3 : (f18 x5) = 0) : k0 = 0 ∧ NXO (s.2 6) (s.2 7) f13 ∧ BS f18 (s.2 6 2) (crS (s.2 6) (s.2 7) (s.2 9) a1 a2.toNat) ∧ ((0 < s.2 5 0 ∧ (0 ≤ a1 ∧ a1 ≤ 3) ∧ 0 ≤ a2 ∧ a2 ≤ 200) ∧ x3 = a3 ∧ 0 ≤ a3 ∧ a3 ≤ s.2 6 2 / s.2 6 0 - 1) ∧ (0 ≤ (i32 (x5 + 1)) ∧ (i32 (x5 + 1)) ≤ s.2 6 2) ∧ isBits (outX (s.2 6) (crS (s.2 6) (s.2 7) (s.2 9) a1 a2.toNat) a3 (i32 (x5 + 1))) x4 := by
  obtain ⟨ht, ha, hl⟩ := hp
  have hN := tOK_N ht
  have hL := tOK_L ht
  (try simp only [bI_0, bI_n, Classical.not_not] at *)
  (try have hN2 : 0 < s.2 6 2 := lOK_N ht hl (by omega))
  (try have hq := ‹NXO _ _ _ ∧ BS _ _ _›)
  (try have hq := And.intro hI.2.1 hI.2.2.1)
  (try have hb0 := hl.2.mp (by omega))
  (try (have hdv := i32_dv (N := s.2 6 2) (B := s.2 6 0) (by omega) (by omega) hb0; rw [hdv] at c_5))
  (try (have hd := dig_in' (x := x5) ht))
  (try have hdk := hd x6 (by omega) (by omega))
  (try have hsk := skp_ub (d := x6) ht hd (n := x8.toNat) (by omega))
  (try unfold lex3)
  (try simp only [bI_0, bI_n, Classical.not_not] at *)
  (try simp (disch := omega) only [i32_id] at *)
  first | done | omega | ((repeat' (with_reducible apply And.intro)) <;> first | assumption | rfl | omega | (exact hI.1) | (exact hq.1) | (exact hq.2) | (unfold rOut; rw [if_neg (by omega)]) | (exact BS_01 hq.2) | (unfold rOut; rw [if_pos (by omega)]; exact bits_eq (by rw [show s.2 6 2 = x5 by omega]; exact hI.2.2.2.2.2)) | (exact isBits_e hI.2.2.2.2.2 (fun g => ⟨fun h => h.elim id (fun q => absurd q outZ_0), Or.inl⟩)) | (exact (BS_cr hq.2 x5).mp ⟨⟨by omega, by omega⟩, (BS_01 hq.2 x5 (by omega) (by omega)).resolve_left c_3⟩) | (intro i h0 h1; exact figs_at h0 h1) | (exact isBits_e hI.2.2.2.2.2 (fun g => outX_n (fun q => by have := ((BS_cr hq.2 x5).mpr q).2; omega))) | (exact isBits_e hI.2.2.2.2.2.1 (fun g => (outX_y (by omega) hI.2.2.2.2.2.2.1).trans (by rw [show s.2 6 1 = x6 by omega]))) | (exact hI.2.2.2.2.2.1) | (exact hI.2.2.2.2.2.2.1) | (exact hI.2.2.2.2.2.2.2.2) | (exact hI.2.2.2.2.2.2.2.2.1) | (exact isBits_e hI.2.2.2.2.2.1 (fun g => or_congr Iff.rfl (outZ_n (by rw [show (s.2 6 1).toNat = x8.toNat by omega, ← hI.2.2.2.2.2.2.2.2.2.2]; omega)))) | (rw [hI.2.2.2.2.2.2.2.2.1 x6 (by omega) (by omega)]; exact isBits_s hI.2.2.2.2.2.1 hdk.1 (by have := tOK_B ht; omega) (fun g => (or_congr Iff.rfl (outZ_y (by omega) (by rw [show (s.2 6 1).toNat = x8.toNat by omega, ← hI.2.2.2.2.2.2.2.2.2.2]; omega))).trans or_assoc.symm)) | (rw [hI.2.2.2.2.2.2.2.2.2.2]; exact skp_skip (by omega) (by omega)) | (rw [hI.2.2.2.2.2.2.2.2.2.2, hI.2.2.2.2.2.2.2.2.1 x8 (by omega) (by omega)]; exact skp_step ht hd (by omega) (by omega) (by assumption)) | (exact isBits_0 (fun f _ _ => outX_0)) | grind [upI])
theorem vX3_out_8 (s : MS) (a1 : Int) (a2 : Int) (a3 : Int) (hp : tOK (s.2 6) ∧ aOK (s.2 6) (s.2 7) ∧ lOK ((s.2 5) 0) (s.2 6)) (x3 : Int) (x4 : Int) (x5 : Int) (f11 : Int → Int) (f12 : Int → Int) (f13 : Int → Int) (f14 : Int → Int) (f15 : Int → Int) (f16 : Int → Int) (f17 : Int → Int) (f18 : Int → Int) (f19 : Int → Int) (k0 : Int) (k25 : Int) (k33 : Int) (k34 : Int) (hI : k0 = 0 ∧ NXO (s.2 6) (s.2 7) f13 ∧ BS f18 (s.2 6 2) (crS (s.2 6) (s.2 7) (s.2 9) a1 a2.toNat) ∧ ((0 < s.2 5 0 ∧ (0 ≤ a1 ∧ a1 ≤ 3) ∧ 0 ≤ a2 ∧ a2 ≤ 200) ∧ x3 = a3 ∧ 0 ≤ a3 ∧ a3 ≤ s.2 6 2 / s.2 6 0 - 1) ∧ (0 ≤ x5 ∧ x5 ≤ s.2 6 2) ∧ isBits (outX (s.2 6) (crS (s.2 6) (s.2 7) (s.2 9) a1 a2.toNat) a3 x5) x4) (c_1 : ¬ (s.2 6 2) ≤ x5) (o_2 : (0 ≤ x5 ∧ x5 < 10000)) (c_3 : (f18 x5) = 0) : lex3 ((s.2 6 2 - (i32 (x5 + 1))).toNat) 0 0 ((s.2 6 2 - x5).toNat) 0 0 := by
  obtain ⟨ht, ha, hl⟩ := hp
  have hN := tOK_N ht
  have hL := tOK_L ht
  (try simp only [bI_0, bI_n, Classical.not_not] at *)
  (try have hN2 : 0 < s.2 6 2 := lOK_N ht hl (by omega))
  (try have hq := ‹NXO _ _ _ ∧ BS _ _ _›)
  (try have hq := And.intro hI.2.1 hI.2.2.1)
  (try have hb0 := hl.2.mp (by omega))
  (try (have hdv := i32_dv (N := s.2 6 2) (B := s.2 6 0) (by omega) (by omega) hb0; rw [hdv] at c_5))
  (try (have hd := dig_in' (x := x5) ht))
  (try have hdk := hd x6 (by omega) (by omega))
  (try have hsk := skp_ub (d := x6) ht hd (n := x8.toNat) (by omega))
  (try unfold lex3)
  (try simp only [bI_0, bI_n, Classical.not_not] at *)
  (try simp (disch := omega) only [i32_id] at *)
  first | done | omega | ((repeat' (with_reducible apply And.intro)) <;> first | assumption | rfl | omega | (exact hI.1) | (exact hq.1) | (exact hq.2) | (unfold rOut; rw [if_neg (by omega)]) | (exact BS_01 hq.2) | (unfold rOut; rw [if_pos (by omega)]; exact bits_eq (by rw [show s.2 6 2 = x5 by omega]; exact hI.2.2.2.2.2)) | (exact isBits_e hI.2.2.2.2.2 (fun g => ⟨fun h => h.elim id (fun q => absurd q outZ_0), Or.inl⟩)) | (exact (BS_cr hq.2 x5).mp ⟨⟨by omega, by omega⟩, (BS_01 hq.2 x5 (by omega) (by omega)).resolve_left c_3⟩) | (intro i h0 h1; exact figs_at h0 h1) | (exact isBits_e hI.2.2.2.2.2 (fun g => outX_n (fun q => by have := ((BS_cr hq.2 x5).mpr q).2; omega))) | (exact isBits_e hI.2.2.2.2.2.1 (fun g => (outX_y (by omega) hI.2.2.2.2.2.2.1).trans (by rw [show s.2 6 1 = x6 by omega]))) | (exact hI.2.2.2.2.2.1) | (exact hI.2.2.2.2.2.2.1) | (exact hI.2.2.2.2.2.2.2.2) | (exact hI.2.2.2.2.2.2.2.2.1) | (exact isBits_e hI.2.2.2.2.2.1 (fun g => or_congr Iff.rfl (outZ_n (by rw [show (s.2 6 1).toNat = x8.toNat by omega, ← hI.2.2.2.2.2.2.2.2.2.2]; omega)))) | (rw [hI.2.2.2.2.2.2.2.2.1 x6 (by omega) (by omega)]; exact isBits_s hI.2.2.2.2.2.1 hdk.1 (by have := tOK_B ht; omega) (fun g => (or_congr Iff.rfl (outZ_y (by omega) (by rw [show (s.2 6 1).toNat = x8.toNat by omega, ← hI.2.2.2.2.2.2.2.2.2.2]; omega))).trans or_assoc.symm)) | (rw [hI.2.2.2.2.2.2.2.2.2.2]; exact skp_skip (by omega) (by omega)) | (rw [hI.2.2.2.2.2.2.2.2.2.2, hI.2.2.2.2.2.2.2.2.1 x8 (by omega) (by omega)]; exact skp_step ht hd (by omega) (by omega) (by assumption)) | (exact isBits_0 (fun f _ _ => outX_0)) | grind [upI])
theorem vX3_out_9 (s : MS) (a1 : Int) (a2 : Int) (a3 : Int) (hp : tOK (s.2 6) ∧ aOK (s.2 6) (s.2 7) ∧ lOK ((s.2 5) 0) (s.2 6)) (x3 : Int) (x4 : Int) (x5 : Int) (x6 : Int) (f11 : Int → Int) (f12 : Int → Int) (f13 : Int → Int) (f14 : Int → Int) (f15 : Int → Int) (f16 : Int → Int) (f17 : Int → Int) (f18 : Int → Int) (f19 : Int → Int) (k0 : Int) (k25 : Int) (k33 : Int) (k34 : Int) (hI : k0 = 0 ∧ NXO (s.2 6) (s.2 7) f13 ∧ BS f18 (s.2 6 2) (crS (s.2 6) (s.2 7) (s.2 9) a1 a2.toNat) ∧ ((0 < s.2 5 0 ∧ (0 ≤ a1 ∧ a1 ≤ 3) ∧ 0 ≤ a2 ∧ a2 ≤ 200) ∧ x3 = a3 ∧ 0 ≤ a3 ∧ a3 ≤ s.2 6 2 / s.2 6 0 - 1) ∧ (0 ≤ x5 ∧ x5 < s.2 6 2) ∧ isBits (fun f => outX (s.2 6) (crS (s.2 6) (s.2 7) (s.2 9) a1 a2.toNat) a3 x5 f ∨ outZ (s.2 6) a3 x5 x6 f) x4 ∧ (crS (s.2 6) (s.2 7) (s.2 9) a1 a2.toNat) x5 ∧ (0 ≤ x6 ∧ x6 ≤ s.2 6 1) ∧ ∀ i : Int, 0 ≤ i → i < s.2 6 1 → f11 i = dig (s.2 6 0) (s.2 6 1) x5 i) (c_1 : (s.2 6 1) ≤ x6) : k0 = 0 ∧ NXO (s.2 6) (s.2 7) f13 ∧ BS f18 (s.2 6 2) (crS (s.2 6) (s.2 7) (s.2 9) a1 a2.toNat) ∧ ((0 < s.2 5 0 ∧ (0 ≤ a1 ∧ a1 ≤ 3) ∧ 0 ≤ a2 ∧ a2 ≤ 200) ∧ x3 = a3 ∧ 0 ≤ a3 ∧ a3 ≤ s.2 6 2 / s.2 6 0 - 1) ∧ (0 ≤ (i32 (x5 + 1)) ∧ (i32 (x5 + 1)) ≤ s.2 6 2) ∧ isBits (outX (s.2 6) (crS (s.2 6) (s.2 7) (s.2 9) a1 a2.toNat) a3 (i32 (x5 + 1))) x4 := by
  obtain ⟨ht, ha, hl⟩ := hp
  have hN := tOK_N ht
  have hL := tOK_L ht
  (try simp only [bI_0, bI_n, Classical.not_not] at *)
  (try have hN2 : 0 < s.2 6 2 := lOK_N ht hl (by omega))
  (try have hq := ‹NXO _ _ _ ∧ BS _ _ _›)
  (try have hq := And.intro hI.2.1 hI.2.2.1)
  (try have hb0 := hl.2.mp (by omega))
  (try (have hdv := i32_dv (N := s.2 6 2) (B := s.2 6 0) (by omega) (by omega) hb0; rw [hdv] at c_5))
  (try (have hd := dig_in' (x := x5) ht))
  (try have hdk := hd x6 (by omega) (by omega))
  (try have hsk := skp_ub (d := x6) ht hd (n := x8.toNat) (by omega))
  (try unfold lex3)
  (try simp only [bI_0, bI_n, Classical.not_not] at *)
  (try simp (disch := omega) only [i32_id] at *)
  first | done | omega | ((repeat' (with_reducible apply And.intro)) <;> first | assumption | rfl | omega | (exact hI.1) | (exact hq.1) | (exact hq.2) | (unfold rOut; rw [if_neg (by omega)]) | (exact BS_01 hq.2) | (unfold rOut; rw [if_pos (by omega)]; exact bits_eq (by rw [show s.2 6 2 = x5 by omega]; exact hI.2.2.2.2.2)) | (exact isBits_e hI.2.2.2.2.2 (fun g => ⟨fun h => h.elim id (fun q => absurd q outZ_0), Or.inl⟩)) | (exact (BS_cr hq.2 x5).mp ⟨⟨by omega, by omega⟩, (BS_01 hq.2 x5 (by omega) (by omega)).resolve_left c_3⟩) | (intro i h0 h1; exact figs_at h0 h1) | (exact isBits_e hI.2.2.2.2.2 (fun g => outX_n (fun q => by have := ((BS_cr hq.2 x5).mpr q).2; omega))) | (exact isBits_e hI.2.2.2.2.2.1 (fun g => (outX_y (by omega) hI.2.2.2.2.2.2.1).trans (by rw [show s.2 6 1 = x6 by omega]))) | (exact hI.2.2.2.2.2.1) | (exact hI.2.2.2.2.2.2.1) | (exact hI.2.2.2.2.2.2.2.2) | (exact hI.2.2.2.2.2.2.2.2.1) | (exact isBits_e hI.2.2.2.2.2.1 (fun g => or_congr Iff.rfl (outZ_n (by rw [show (s.2 6 1).toNat = x8.toNat by omega, ← hI.2.2.2.2.2.2.2.2.2.2]; omega)))) | (rw [hI.2.2.2.2.2.2.2.2.1 x6 (by omega) (by omega)]; exact isBits_s hI.2.2.2.2.2.1 hdk.1 (by have := tOK_B ht; omega) (fun g => (or_congr Iff.rfl (outZ_y (by omega) (by rw [show (s.2 6 1).toNat = x8.toNat by omega, ← hI.2.2.2.2.2.2.2.2.2.2]; omega))).trans or_assoc.symm)) | (rw [hI.2.2.2.2.2.2.2.2.2.2]; exact skp_skip (by omega) (by omega)) | (rw [hI.2.2.2.2.2.2.2.2.2.2, hI.2.2.2.2.2.2.2.2.1 x8 (by omega) (by omega)]; exact skp_step ht hd (by omega) (by omega) (by assumption)) | (exact isBits_0 (fun f _ _ => outX_0)) | grind [upI])
theorem vX3_out_10 (s : MS) (a1 : Int) (a2 : Int) (a3 : Int) (hp : tOK (s.2 6) ∧ aOK (s.2 6) (s.2 7) ∧ lOK ((s.2 5) 0) (s.2 6)) (x3 : Int) (x4 : Int) (x5 : Int) (x6 : Int) (f11 : Int → Int) (f12 : Int → Int) (f13 : Int → Int) (f14 : Int → Int) (f15 : Int → Int) (f16 : Int → Int) (f17 : Int → Int) (f18 : Int → Int) (f19 : Int → Int) (k0 : Int) (k25 : Int) (k33 : Int) (k34 : Int) (hI : k0 = 0 ∧ NXO (s.2 6) (s.2 7) f13 ∧ BS f18 (s.2 6 2) (crS (s.2 6) (s.2 7) (s.2 9) a1 a2.toNat) ∧ ((0 < s.2 5 0 ∧ (0 ≤ a1 ∧ a1 ≤ 3) ∧ 0 ≤ a2 ∧ a2 ≤ 200) ∧ x3 = a3 ∧ 0 ≤ a3 ∧ a3 ≤ s.2 6 2 / s.2 6 0 - 1) ∧ (0 ≤ x5 ∧ x5 < s.2 6 2) ∧ isBits (fun f => outX (s.2 6) (crS (s.2 6) (s.2 7) (s.2 9) a1 a2.toNat) a3 x5 f ∨ outZ (s.2 6) a3 x5 x6 f) x4 ∧ (crS (s.2 6) (s.2 7) (s.2 9) a1 a2.toNat) x5 ∧ (0 ≤ x6 ∧ x6 ≤ s.2 6 1) ∧ ∀ i : Int, 0 ≤ i → i < s.2 6 1 → f11 i = dig (s.2 6 0) (s.2 6 1) x5 i) (c_1 : (s.2 6 1) ≤ x6) : lex3 ((s.2 6 2 - (i32 (x5 + 1))).toNat) 0 0 ((s.2 6 2 - x5).toNat - 1) ((s.2 6 1 - x6).toNat + 1) 0 := by
  obtain ⟨ht, ha, hl⟩ := hp
  have hN := tOK_N ht
  have hL := tOK_L ht
  (try simp only [bI_0, bI_n, Classical.not_not] at *)
  (try have hN2 : 0 < s.2 6 2 := lOK_N ht hl (by omega))
  (try have hq := ‹NXO _ _ _ ∧ BS _ _ _›)
  (try have hq := And.intro hI.2.1 hI.2.2.1)
  (try have hb0 := hl.2.mp (by omega))
  (try (have hdv := i32_dv (N := s.2 6 2) (B := s.2 6 0) (by omega) (by omega) hb0; rw [hdv] at c_5))
  (try (have hd := dig_in' (x := x5) ht))
  (try have hdk := hd x6 (by omega) (by omega))
  (try have hsk := skp_ub (d := x6) ht hd (n := x8.toNat) (by omega))
  (try unfold lex3)
  (try simp only [bI_0, bI_n, Classical.not_not] at *)
  (try simp (disch := omega) only [i32_id] at *)
  first | done | omega | ((repeat' (with_reducible apply And.intro)) <;> first | assumption | rfl | omega | (exact hI.1) | (exact hq.1) | (exact hq.2) | (unfold rOut; rw [if_neg (by omega)]) | (exact BS_01 hq.2) | (unfold rOut; rw [if_pos (by omega)]; exact bits_eq (by rw [show s.2 6 2 = x5 by omega]; exact hI.2.2.2.2.2)) | (exact isBits_e hI.2.2.2.2.2 (fun g => ⟨fun h => h.elim id (fun q => absurd q outZ_0), Or.inl⟩)) | (exact (BS_cr hq.2 x5).mp ⟨⟨by omega, by omega⟩, (BS_01 hq.2 x5 (by omega) (by omega)).resolve_left c_3⟩) | (intro i h0 h1; exact figs_at h0 h1) | (exact isBits_e hI.2.2.2.2.2 (fun g => outX_n (fun q => by have := ((BS_cr hq.2 x5).mpr q).2; omega))) | (exact isBits_e hI.2.2.2.2.2.1 (fun g => (outX_y (by omega) hI.2.2.2.2.2.2.1).trans (by rw [show s.2 6 1 = x6 by omega]))) | (exact hI.2.2.2.2.2.1) | (exact hI.2.2.2.2.2.2.1) | (exact hI.2.2.2.2.2.2.2.2) | (exact hI.2.2.2.2.2.2.2.2.1) | (exact isBits_e hI.2.2.2.2.2.1 (fun g => or_congr Iff.rfl (outZ_n (by rw [show (s.2 6 1).toNat = x8.toNat by omega, ← hI.2.2.2.2.2.2.2.2.2.2]; omega)))) | (rw [hI.2.2.2.2.2.2.2.2.1 x6 (by omega) (by omega)]; exact isBits_s hI.2.2.2.2.2.1 hdk.1 (by have := tOK_B ht; omega) (fun g => (or_congr Iff.rfl (outZ_y (by omega) (by rw [show (s.2 6 1).toNat = x8.toNat by omega, ← hI.2.2.2.2.2.2.2.2.2.2]; omega))).trans or_assoc.symm)) | (rw [hI.2.2.2.2.2.2.2.2.2.2]; exact skp_skip (by omega) (by omega)) | (rw [hI.2.2.2.2.2.2.2.2.2.2, hI.2.2.2.2.2.2.2.2.1 x8 (by omega) (by omega)]; exact skp_step ht hd (by omega) (by omega) (by assumption)) | (exact isBits_0 (fun f _ _ => outX_0)) | grind [upI])
theorem vX3_out_11 (s : MS) (a1 : Int) (a2 : Int) (a3 : Int) (hp : tOK (s.2 6) ∧ aOK (s.2 6) (s.2 7) ∧ lOK ((s.2 5) 0) (s.2 6)) (x3 : Int) (x4 : Int) (x5 : Int) (x6 : Int) (f11 : Int → Int) (f12 : Int → Int) (f13 : Int → Int) (f14 : Int → Int) (f15 : Int → Int) (f16 : Int → Int) (f17 : Int → Int) (f18 : Int → Int) (f19 : Int → Int) (k0 : Int) (k25 : Int) (k33 : Int) (k34 : Int) (hI : k0 = 0 ∧ NXO (s.2 6) (s.2 7) f13 ∧ BS f18 (s.2 6 2) (crS (s.2 6) (s.2 7) (s.2 9) a1 a2.toNat) ∧ ((0 < s.2 5 0 ∧ (0 ≤ a1 ∧ a1 ≤ 3) ∧ 0 ≤ a2 ∧ a2 ≤ 200) ∧ x3 = a3 ∧ 0 ≤ a3 ∧ a3 ≤ s.2 6 2 / s.2 6 0 - 1) ∧ (0 ≤ x5 ∧ x5 < s.2 6 2) ∧ isBits (fun f => outX (s.2 6) (crS (s.2 6) (s.2 7) (s.2 9) a1 a2.toNat) a3 x5 f ∨ outZ (s.2 6) a3 x5 x6 f) x4 ∧ (crS (s.2 6) (s.2 7) (s.2 9) a1 a2.toNat) x5 ∧ (0 ≤ x6 ∧ x6 ≤ s.2 6 1) ∧ ∀ i : Int, 0 ≤ i → i < s.2 6 1 → f11 i = dig (s.2 6 0) (s.2 6 1) x5 i) (c_1 : ¬ (s.2 6 1) ≤ x6) : k0 = 0 ∧ NXO (s.2 6) (s.2 7) f13 ∧ BS f18 (s.2 6 2) (crS (s.2 6) (s.2 7) (s.2 9) a1 a2.toNat) ∧ ((0 < s.2 5 0 ∧ (0 ≤ a1 ∧ a1 ≤ 3) ∧ 0 ≤ a2 ∧ a2 ≤ 200) ∧ x3 = a3 ∧ 0 ≤ a3 ∧ a3 ≤ s.2 6 2 / s.2 6 0 - 1) ∧ (0 ≤ x5 ∧ x5 < s.2 6 2) ∧ isBits (fun f => outX (s.2 6) (crS (s.2 6) (s.2 7) (s.2 9) a1 a2.toNat) a3 x5 f ∨ outZ (s.2 6) a3 x5 x6 f) x4 ∧ (crS (s.2 6) (s.2 7) (s.2 9) a1 a2.toNat) x5 ∧ (0 ≤ x6 ∧ x6 < s.2 6 1) ∧ (∀ i : Int, 0 ≤ i → i < s.2 6 1 → f11 i = dig (s.2 6 0) (s.2 6 1) x5 i) ∧ (0 ≤ (0 : Int) ∧ (0 : Int) ≤ s.2 6 1) ∧ (0 : Int) = skp (s.2 6 0) x6 (dig (s.2 6 0) (s.2 6 1) x5) (0 : Int).toNat := by
  obtain ⟨ht, ha, hl⟩ := hp
  have hN := tOK_N ht
  have hL := tOK_L ht
  (try simp only [bI_0, bI_n, Classical.not_not] at *)
  (try have hN2 : 0 < s.2 6 2 := lOK_N ht hl (by omega))
  (try have hq := ‹NXO _ _ _ ∧ BS _ _ _›)
  (try have hq := And.intro hI.2.1 hI.2.2.1)
  (try have hb0 := hl.2.mp (by omega))
  (try (have hdv := i32_dv (N := s.2 6 2) (B := s.2 6 0) (by omega) (by omega) hb0; rw [hdv] at c_5))
  (try (have hd := dig_in' (x := x5) ht))
  (try have hdk := hd x6 (by omega) (by omega))
  (try have hsk := skp_ub (d := x6) ht hd (n := x8.toNat) (by omega))
  (try unfold lex3)
  (try simp only [bI_0, bI_n, Classical.not_not] at *)
  (try simp (disch := omega) only [i32_id] at *)
  first | done | omega | ((repeat' (with_reducible apply And.intro)) <;> first | assumption | rfl | omega | (exact hI.1) | (exact hq.1) | (exact hq.2) | (unfold rOut; rw [if_neg (by omega)]) | (exact BS_01 hq.2) | (unfold rOut; rw [if_pos (by omega)]; exact bits_eq (by rw [show s.2 6 2 = x5 by omega]; exact hI.2.2.2.2.2)) | (exact isBits_e hI.2.2.2.2.2 (fun g => ⟨fun h => h.elim id (fun q => absurd q outZ_0), Or.inl⟩)) | (exact (BS_cr hq.2 x5).mp ⟨⟨by omega, by omega⟩, (BS_01 hq.2 x5 (by omega) (by omega)).resolve_left c_3⟩) | (intro i h0 h1; exact figs_at h0 h1) | (exact isBits_e hI.2.2.2.2.2 (fun g => outX_n (fun q => by have := ((BS_cr hq.2 x5).mpr q).2; omega))) | (exact isBits_e hI.2.2.2.2.2.1 (fun g => (outX_y (by omega) hI.2.2.2.2.2.2.1).trans (by rw [show s.2 6 1 = x6 by omega]))) | (exact hI.2.2.2.2.2.1) | (exact hI.2.2.2.2.2.2.1) | (exact hI.2.2.2.2.2.2.2.2) | (exact hI.2.2.2.2.2.2.2.2.1) | (exact isBits_e hI.2.2.2.2.2.1 (fun g => or_congr Iff.rfl (outZ_n (by rw [show (s.2 6 1).toNat = x8.toNat by omega, ← hI.2.2.2.2.2.2.2.2.2.2]; omega)))) | (rw [hI.2.2.2.2.2.2.2.2.1 x6 (by omega) (by omega)]; exact isBits_s hI.2.2.2.2.2.1 hdk.1 (by have := tOK_B ht; omega) (fun g => (or_congr Iff.rfl (outZ_y (by omega) (by rw [show (s.2 6 1).toNat = x8.toNat by omega, ← hI.2.2.2.2.2.2.2.2.2.2]; omega))).trans or_assoc.symm)) | (rw [hI.2.2.2.2.2.2.2.2.2.2]; exact skp_skip (by omega) (by omega)) | (rw [hI.2.2.2.2.2.2.2.2.2.2, hI.2.2.2.2.2.2.2.2.1 x8 (by omega) (by omega)]; exact skp_step ht hd (by omega) (by omega) (by assumption)) | (exact isBits_0 (fun f _ _ => outX_0)) | grind [upI])
theorem vX3_out_12 (s : MS) (a1 : Int) (a2 : Int) (a3 : Int) (hp : tOK (s.2 6) ∧ aOK (s.2 6) (s.2 7) ∧ lOK ((s.2 5) 0) (s.2 6)) (x3 : Int) (x4 : Int) (x5 : Int) (x6 : Int) (f11 : Int → Int) (f12 : Int → Int) (f13 : Int → Int) (f14 : Int → Int) (f15 : Int → Int) (f16 : Int → Int) (f17 : Int → Int) (f18 : Int → Int) (f19 : Int → Int) (k0 : Int) (k25 : Int) (k33 : Int) (k34 : Int) (hI : k0 = 0 ∧ NXO (s.2 6) (s.2 7) f13 ∧ BS f18 (s.2 6 2) (crS (s.2 6) (s.2 7) (s.2 9) a1 a2.toNat) ∧ ((0 < s.2 5 0 ∧ (0 ≤ a1 ∧ a1 ≤ 3) ∧ 0 ≤ a2 ∧ a2 ≤ 200) ∧ x3 = a3 ∧ 0 ≤ a3 ∧ a3 ≤ s.2 6 2 / s.2 6 0 - 1) ∧ (0 ≤ x5 ∧ x5 < s.2 6 2) ∧ isBits (fun f => outX (s.2 6) (crS (s.2 6) (s.2 7) (s.2 9) a1 a2.toNat) a3 x5 f ∨ outZ (s.2 6) a3 x5 x6 f) x4 ∧ (crS (s.2 6) (s.2 7) (s.2 9) a1 a2.toNat) x5 ∧ (0 ≤ x6 ∧ x6 ≤ s.2 6 1) ∧ ∀ i : Int, 0 ≤ i → i < s.2 6 1 → f11 i = dig (s.2 6 0) (s.2 6 1) x5 i) (c_1 : ¬ (s.2 6 1) ≤ x6) : lex3 ((s.2 6 2 - x5).toNat - 1) ((s.2 6 1 - x6).toNat) ((s.2 6 1 - (0 : Int)).toNat + 1) ((s.2 6 2 - x5).toNat - 1) ((s.2 6 1 - x6).toNat + 1) 0 := by
  obtain ⟨ht, ha, hl⟩ := hp
  have hN := tOK_N ht
  have hL := tOK_L ht
  (try simp only [bI_0, bI_n, Classical.not_not] at *)
  (try have hN2 : 0 < s.2 6 2 := lOK_N ht hl (by omega))
  (try have hq := ‹NXO _ _ _ ∧ BS _ _ _›)
  (try have hq := And.intro hI.2.1 hI.2.2.1)
  (try have hb0 := hl.2.mp (by omega))
  (try (have hdv := i32_dv (N := s.2 6 2) (B := s.2 6 0) (by omega) (by omega) hb0; rw [hdv] at c_5))
  (try (have hd := dig_in' (x := x5) ht))
  (try have hdk := hd x6 (by omega) (by omega))
  (try have hsk := skp_ub (d := x6) ht hd (n := x8.toNat) (by omega))
  (try unfold lex3)
  (try simp only [bI_0, bI_n, Classical.not_not] at *)
  (try simp (disch := omega) only [i32_id] at *)
  first | done | omega | ((repeat' (with_reducible apply And.intro)) <;> first | assumption | rfl | omega | (exact hI.1) | (exact hq.1) | (exact hq.2) | (unfold rOut; rw [if_neg (by omega)]) | (exact BS_01 hq.2) | (unfold rOut; rw [if_pos (by omega)]; exact bits_eq (by rw [show s.2 6 2 = x5 by omega]; exact hI.2.2.2.2.2)) | (exact isBits_e hI.2.2.2.2.2 (fun g => ⟨fun h => h.elim id (fun q => absurd q outZ_0), Or.inl⟩)) | (exact (BS_cr hq.2 x5).mp ⟨⟨by omega, by omega⟩, (BS_01 hq.2 x5 (by omega) (by omega)).resolve_left c_3⟩) | (intro i h0 h1; exact figs_at h0 h1) | (exact isBits_e hI.2.2.2.2.2 (fun g => outX_n (fun q => by have := ((BS_cr hq.2 x5).mpr q).2; omega))) | (exact isBits_e hI.2.2.2.2.2.1 (fun g => (outX_y (by omega) hI.2.2.2.2.2.2.1).trans (by rw [show s.2 6 1 = x6 by omega]))) | (exact hI.2.2.2.2.2.1) | (exact hI.2.2.2.2.2.2.1) | (exact hI.2.2.2.2.2.2.2.2) | (exact hI.2.2.2.2.2.2.2.2.1) | (exact isBits_e hI.2.2.2.2.2.1 (fun g => or_congr Iff.rfl (outZ_n (by rw [show (s.2 6 1).toNat = x8.toNat by omega, ← hI.2.2.2.2.2.2.2.2.2.2]; omega)))) | (rw [hI.2.2.2.2.2.2.2.2.1 x6 (by omega) (by omega)]; exact isBits_s hI.2.2.2.2.2.1 hdk.1 (by have := tOK_B ht; omega) (fun g => (or_congr Iff.rfl (outZ_y (by omega) (by rw [show (s.2 6 1).toNat = x8.toNat by omega, ← hI.2.2.2.2.2.2.2.2.2.2]; omega))).trans or_assoc.symm)) | (rw [hI.2.2.2.2.2.2.2.2.2.2]; exact skp_skip (by omega) (by omega)) | (rw [hI.2.2.2.2.2.2.2.2.2.2, hI.2.2.2.2.2.2.2.2.1 x8 (by omega) (by omega)]; exact skp_step ht hd (by omega) (by omega) (by assumption)) | (exact isBits_0 (fun f _ _ => outX_0)) | grind [upI])
theorem vX3_out_13 (s : MS) (a1 : Int) (a2 : Int) (a3 : Int) (hp : tOK (s.2 6) ∧ aOK (s.2 6) (s.2 7) ∧ lOK ((s.2 5) 0) (s.2 6)) (x3 : Int) (x4 : Int) (x5 : Int) (x6 : Int) (x7 : Int) (x8 : Int) (f11 : Int → Int) (f12 : Int → Int) (f13 : Int → Int) (f14 : Int → Int) (f15 : Int → Int) (f16 : Int → Int) (f17 : Int → Int) (f18 : Int → Int) (f19 : Int → Int) (k0 : Int) (k25 : Int) (k33 : Int) (k34 : Int) (hI : k0 = 0 ∧ NXO (s.2 6) (s.2 7) f13 ∧ BS f18 (s.2 6 2) (crS (s.2 6) (s.2 7) (s.2 9) a1 a2.toNat) ∧ ((0 < s.2 5 0 ∧ (0 ≤ a1 ∧ a1 ≤ 3) ∧ 0 ≤ a2 ∧ a2 ≤ 200) ∧ x3 = a3 ∧ 0 ≤ a3 ∧ a3 ≤ s.2 6 2 / s.2 6 0 - 1) ∧ (0 ≤ x5 ∧ x5 < s.2 6 2) ∧ isBits (fun f => outX (s.2 6) (crS (s.2 6) (s.2 7) (s.2 9) a1 a2.toNat) a3 x5 f ∨ outZ (s.2 6) a3 x5 x6 f) x4 ∧ (crS (s.2 6) (s.2 7) (s.2 9) a1 a2.toNat) x5 ∧ (0 ≤ x6 ∧ x6 < s.2 6 1) ∧ (∀ i : Int, 0 ≤ i → i < s.2 6 1 → f11 i = dig (s.2 6 0) (s.2 6 1) x5 i) ∧ (0 ≤ x8 ∧ x8 ≤ s.2 6 1) ∧ x7 = skp (s.2 6 0) x6 (dig (s.2 6 0) (s.2 6 1) x5) x8.toNat) (c_1 : (s.2 6 1) ≤ x8) (c_2 : ¬ x7 = x3) : k0 = 0 ∧ NXO (s.2 6) (s.2 7) f13 ∧ BS f18 (s.2 6 2) (crS (s.2 6) (s.2 7) (s.2 9) a1 a2.toNat) ∧ ((0 < s.2 5 0 ∧ (0 ≤ a1 ∧ a1 ≤ 3) ∧ 0 ≤ a2 ∧ a2 ≤ 200) ∧ x3 = a3 ∧ 0 ≤ a3 ∧ a3 ≤ s.2 6 2 / s.2 6 0 - 1) ∧ (0 ≤ x5 ∧ x5 < s.2 6 2) ∧ isBits (fun f => outX (s.2 6) (crS (s.2 6) (s.2 7) (s.2 9) a1 a2.toNat) a3 x5 f ∨ outZ (s.2 6) a3 x5 (i32 (x6 + 1)) f) x4 ∧ (crS (s.2 6) (s.2 7) (s.2 9) a1 a2.toNat) x5 ∧ (0 ≤ (i32 (x6 + 1)) ∧ (i32 (x6 + 1)) ≤ s.2 6 1) ∧ ∀ i : Int, 0 ≤ i → i < s.2 6 1 → f11 i = dig (s.2 6 0) (s.2 6 1) x5 i := by
  obtain ⟨ht, ha, hl⟩ := hp
  have hN := tOK_N ht
  have hL := tOK_L ht
  (try simp only [bI_0, bI_n, Classical.not_not] at *)
  (try have hN2 : 0 < s.2 6 2 := lOK_N ht hl (by omega))
  (try have hq := ‹NXO _ _ _ ∧ BS _ _ _›)
  (try have hq := And.intro hI.2.1 hI.2.2.1)
  (try have hb0 := hl.2.mp (by omega))
  (try (have hdv := i32_dv (N := s.2 6 2) (B := s.2 6 0) (by omega) (by omega) hb0; rw [hdv] at c_5))
  (try (have hd := dig_in' (x := x5) ht))
  (try have hdk := hd x6 (by omega) (by omega))
  (try have hsk := skp_ub (d := x6) ht hd (n := x8.toNat) (by omega))
  (try unfold lex3)
  (try simp only [bI_0, bI_n, Classical.not_not] at *)
  (try simp (disch := omega) only [i32_id] at *)
  first | done | omega | ((repeat' (with_reducible apply And.intro)) <;> first | assumption | rfl | omega | (exact hI.1) | (exact hq.1) | (exact hq.2) | (unfold rOut; rw [if_neg (by omega)]) | (exact BS_01 hq.2) | (unfold rOut; rw [if_pos (by omega)]; exact bits_eq (by rw [show s.2 6 2 = x5 by omega]; exact hI.2.2.2.2.2)) | (exact isBits_e hI.2.2.2.2.2 (fun g => ⟨fun h => h.elim id (fun q => absurd q outZ_0), Or.inl⟩)) | (exact (BS_cr hq.2 x5).mp ⟨⟨by omega, by omega⟩, (BS_01 hq.2 x5 (by omega) (by omega)).resolve_left c_3⟩) | (intro i h0 h1; exact figs_at h0 h1) | (exact isBits_e hI.2.2.2.2.2 (fun g => outX_n (fun q => by have := ((BS_cr hq.2 x5).mpr q).2; omega))) | (exact isBits_e hI.2.2.2.2.2.1 (fun g => (outX_y (by omega) hI.2.2.2.2.2.2.1).trans (by rw [show s.2 6 1 = x6 by omega]))) | (exact hI.2.2.2.2.2.1) | (exact hI.2.2.2.2.2.2.1) | (exact hI.2.2.2.2.2.2.2.2) | (exact hI.2.2.2.2.2.2.2.2.1) | (exact isBits_e hI.2.2.2.2.2.1 (fun g => or_congr Iff.rfl (outZ_n (by rw [show (s.2 6 1).toNat = x8.toNat by omega, ← hI.2.2.2.2.2.2.2.2.2.2]; omega)))) | (rw [hI.2.2.2.2.2.2.2.2.1 x6 (by omega) (by omega)]; exact isBits_s hI.2.2.2.2.2.1 hdk.1 (by have := tOK_B ht; omega) (fun g => (or_congr Iff.rfl (outZ_y (by omega) (by rw [show (s.2 6 1).toNat = x8.toNat by omega, ← hI.2.2.2.2.2.2.2.2.2.2]; omega))).trans or_assoc.symm)) | (rw [hI.2.2.2.2.2.2.2.2.2.2]; exact skp_skip (by omega) (by omega)) | (rw [hI.2.2.2.2.2.2.2.2.2.2, hI.2.2.2.2.2.2.2.2.1 x8 (by omega) (by omega)]; exact skp_step ht hd (by omega) (by omega) (by assumption)) | (exact isBits_0 (fun f _ _ => outX_0)) | grind [upI])
theorem vX3_out_14 (s : MS) (a1 : Int) (a2 : Int) (a3 : Int) (hp : tOK (s.2 6) ∧ aOK (s.2 6) (s.2 7) ∧ lOK ((s.2 5) 0) (s.2 6)) (x3 : Int) (x4 : Int) (x5 : Int) (x6 : Int) (x7 : Int) (x8 : Int) (f11 : Int → Int) (f12 : Int → Int) (f13 : Int → Int) (f14 : Int → Int) (f15 : Int → Int) (f16 : Int → Int) (f17 : Int → Int) (f18 : Int → Int) (f19 : Int → Int) (k0 : Int) (k25 : Int) (k33 : Int) (k34 : Int) (hI : k0 = 0 ∧ NXO (s.2 6) (s.2 7) f13 ∧ BS f18 (s.2 6 2) (crS (s.2 6) (s.2 7) (s.2 9) a1 a2.toNat) ∧ ((0 < s.2 5 0 ∧ (0 ≤ a1 ∧ a1 ≤ 3) ∧ 0 ≤ a2 ∧ a2 ≤ 200) ∧ x3 = a3 ∧ 0 ≤ a3 ∧ a3 ≤ s.2 6 2 / s.2 6 0 - 1) ∧ (0 ≤ x5 ∧ x5 < s.2 6 2) ∧ isBits (fun f => outX (s.2 6) (crS (s.2 6) (s.2 7) (s.2 9) a1 a2.toNat) a3 x5 f ∨ outZ (s.2 6) a3 x5 x6 f) x4 ∧ (crS (s.2 6) (s.2 7) (s.2 9) a1 a2.toNat) x5 ∧ (0 ≤ x6 ∧ x6 < s.2 6 1) ∧ (∀ i : Int, 0 ≤ i → i < s.2 6 1 → f11 i = dig (s.2 6 0) (s.2 6 1) x5 i) ∧ (0 ≤ x8 ∧ x8 ≤ s.2 6 1) ∧ x7 = skp (s.2 6 0) x6 (dig (s.2 6 0) (s.2 6 1) x5) x8.toNat) (c_1 : (s.2 6 1) ≤ x8) (c_2 : ¬ x7 = x3) : lex3 ((s.2 6 2 - x5).toNat - 1) ((s.2 6 1 - (i32 (x6 + 1))).toNat + 1) 0 ((s.2 6 2 - x5).toNat - 1) ((s.2 6 1 - x6).toNat) ((s.2 6 1 - x8).toNat + 1) := by
  obtain ⟨ht, ha, hl⟩ := hp
  have hN := tOK_N ht
  have hL := tOK_L ht
  (try simp only [bI_0, bI_n, Classical.not_not] at *)
  (try have hN2 : 0 < s.2 6 2 := lOK_N ht hl (by omega))
  (try have hq := ‹NXO _ _ _ ∧ BS _ _ _›)
  (try have hq := And.intro hI.2.1 hI.2.2.1)
  (try have hb0 := hl.2.mp (by omega))
  (try (have hdv := i32_dv (N := s.2 6 2) (B := s.2 6 0) (by omega) (by omega) hb0; rw [hdv] at c_5))
  (try (have hd := dig_in' (x := x5) ht))
  (try have hdk := hd x6 (by omega) (by omega))
  (try have hsk := skp_ub (d := x6) ht hd (n := x8.toNat) (by omega))
  (try unfold lex3)
  (try simp only [bI_0, bI_n, Classical.not_not] at *)
  (try simp (disch := omega) only [i32_id] at *)
  first | done | omega | ((repeat' (with_reducible apply And.intro)) <;> first | assumption | rfl | omega | (exact hI.1) | (exact hq.1) | (exact hq.2) | (unfold rOut; rw [if_neg (by omega)]) | (exact BS_01 hq.2) | (unfold rOut; rw [if_pos (by omega)]; exact bits_eq (by rw [show s.2 6 2 = x5 by omega]; exact hI.2.2.2.2.2)) | (exact isBits_e hI.2.2.2.2.2 (fun g => ⟨fun h => h.elim id (fun q => absurd q outZ_0), Or.inl⟩)) | (exact (BS_cr hq.2 x5).mp ⟨⟨by omega, by omega⟩, (BS_01 hq.2 x5 (by omega) (by omega)).resolve_left c_3⟩) | (intro i h0 h1; exact figs_at h0 h1) | (exact isBits_e hI.2.2.2.2.2 (fun g => outX_n (fun q => by have := ((BS_cr hq.2 x5).mpr q).2; omega))) | (exact isBits_e hI.2.2.2.2.2.1 (fun g => (outX_y (by omega) hI.2.2.2.2.2.2.1).trans (by rw [show s.2 6 1 = x6 by omega]))) | (exact hI.2.2.2.2.2.1) | (exact hI.2.2.2.2.2.2.1) | (exact hI.2.2.2.2.2.2.2.2) | (exact hI.2.2.2.2.2.2.2.2.1) | (exact isBits_e hI.2.2.2.2.2.1 (fun g => or_congr Iff.rfl (outZ_n (by rw [show (s.2 6 1).toNat = x8.toNat by omega, ← hI.2.2.2.2.2.2.2.2.2.2]; omega)))) | (rw [hI.2.2.2.2.2.2.2.2.1 x6 (by omega) (by omega)]; exact isBits_s hI.2.2.2.2.2.1 hdk.1 (by have := tOK_B ht; omega) (fun g => (or_congr Iff.rfl (outZ_y (by omega) (by rw [show (s.2 6 1).toNat = x8.toNat by omega, ← hI.2.2.2.2.2.2.2.2.2.2]; omega))).trans or_assoc.symm)) | (rw [hI.2.2.2.2.2.2.2.2.2.2]; exact skp_skip (by omega) (by omega)) | (rw [hI.2.2.2.2.2.2.2.2.2.2, hI.2.2.2.2.2.2.2.2.1 x8 (by omega) (by omega)]; exact skp_step ht hd (by omega) (by omega) (by assumption)) | (exact isBits_0 (fun f _ _ => outX_0)) | grind [upI])
theorem vX3_out_15 (s : MS) (a1 : Int) (a2 : Int) (a3 : Int) (hp : tOK (s.2 6) ∧ aOK (s.2 6) (s.2 7) ∧ lOK ((s.2 5) 0) (s.2 6)) (x3 : Int) (x4 : Int) (x5 : Int) (x6 : Int) (x7 : Int) (x8 : Int) (f11 : Int → Int) (f12 : Int → Int) (f13 : Int → Int) (f14 : Int → Int) (f15 : Int → Int) (f16 : Int → Int) (f17 : Int → Int) (f18 : Int → Int) (f19 : Int → Int) (k0 : Int) (k25 : Int) (k33 : Int) (k34 : Int) (hI : k0 = 0 ∧ NXO (s.2 6) (s.2 7) f13 ∧ BS f18 (s.2 6 2) (crS (s.2 6) (s.2 7) (s.2 9) a1 a2.toNat) ∧ ((0 < s.2 5 0 ∧ (0 ≤ a1 ∧ a1 ≤ 3) ∧ 0 ≤ a2 ∧ a2 ≤ 200) ∧ x3 = a3 ∧ 0 ≤ a3 ∧ a3 ≤ s.2 6 2 / s.2 6 0 - 1) ∧ (0 ≤ x5 ∧ x5 < s.2 6 2) ∧ isBits (fun f => outX (s.2 6) (crS (s.2 6) (s.2 7) (s.2 9) a1 a2.toNat) a3 x5 f ∨ outZ (s.2 6) a3 x5 x6 f) x4 ∧ (crS (s.2 6) (s.2 7) (s.2 9) a1 a2.toNat) x5 ∧ (0 ≤ x6 ∧ x6 < s.2 6 1) ∧ (∀ i : Int, 0 ≤ i → i < s.2 6 1 → f11 i = dig (s.2 6 0) (s.2 6 1) x5 i) ∧ (0 ≤ x8 ∧ x8 ≤ s.2 6 1) ∧ x7 = skp (s.2 6 0) x6 (dig (s.2 6 0) (s.2 6 1) x5) x8.toNat) (c_1 : (s.2 6 1) ≤ x8) (c_2 : x7 = x3) : (0 ≤ x6 ∧ x6 < 8) := by
  obtain ⟨ht, ha, hl⟩ := hp
  have hN := tOK_N ht
  have hL := tOK_L ht
  (try simp only [bI_0, bI_n, Classical.not_not] at *)
  (try have hN2 : 0 < s.2 6 2 := lOK_N ht hl (by omega))
  (try have hq := ‹NXO _ _ _ ∧ BS _ _ _›)
  (try have hq := And.intro hI.2.1 hI.2.2.1)
  (try have hb0 := hl.2.mp (by omega))
  (try (have hdv := i32_dv (N := s.2 6 2) (B := s.2 6 0) (by omega) (by omega) hb0; rw [hdv] at c_5))
  (try (have hd := dig_in' (x := x5) ht))
  (try have hdk := hd x6 (by omega) (by omega))
  (try have hsk := skp_ub (d := x6) ht hd (n := x8.toNat) (by omega))
  (try unfold lex3)
  (try simp only [bI_0, bI_n, Classical.not_not] at *)
  (try simp (disch := omega) only [i32_id] at *)
  first | done | omega | ((repeat' (with_reducible apply And.intro)) <;> first | assumption | rfl | omega | (exact hI.1) | (exact hq.1) | (exact hq.2) | (unfold rOut; rw [if_neg (by omega)]) | (exact BS_01 hq.2) | (unfold rOut; rw [if_pos (by omega)]; exact bits_eq (by rw [show s.2 6 2 = x5 by omega]; exact hI.2.2.2.2.2)) | (exact isBits_e hI.2.2.2.2.2 (fun g => ⟨fun h => h.elim id (fun q => absurd q outZ_0), Or.inl⟩)) | (exact (BS_cr hq.2 x5).mp ⟨⟨by omega, by omega⟩, (BS_01 hq.2 x5 (by omega) (by omega)).resolve_left c_3⟩) | (intro i h0 h1; exact figs_at h0 h1) | (exact isBits_e hI.2.2.2.2.2 (fun g => outX_n (fun q => by have := ((BS_cr hq.2 x5).mpr q).2; omega))) | (exact isBits_e hI.2.2.2.2.2.1 (fun g => (outX_y (by omega) hI.2.2.2.2.2.2.1).trans (by rw [show s.2 6 1 = x6 by omega]))) | (exact hI.2.2.2.2.2.1) | (exact hI.2.2.2.2.2.2.1) | (exact hI.2.2.2.2.2.2.2.2) | (exact hI.2.2.2.2.2.2.2.2.1) | (exact isBits_e hI.2.2.2.2.2.1 (fun g => or_congr Iff.rfl (outZ_n (by rw [show (s.2 6 1).toNat = x8.toNat by omega, ← hI.2.2.2.2.2.2.2.2.2.2]; omega)))) | (rw [hI.2.2.2.2.2.2.2.2.1 x6 (by omega) (by omega)]; exact isBits_s hI.2.2.2.2.2.1 hdk.1 (by have := tOK_B ht; omega) (fun g => (or_congr Iff.rfl (outZ_y (by omega) (by rw [show (s.2 6 1).toNat = x8.toNat by omega, ← hI.2.2.2.2.2.2.2.2.2.2]; omega))).trans or_assoc.symm)) | (rw [hI.2.2.2.2.2.2.2.2.2.2]; exact skp_skip (by omega) (by omega)) | (rw [hI.2.2.2.2.2.2.2.2.2.2, hI.2.2.2.2.2.2.2.2.1 x8 (by omega) (by omega)]; exact skp_step ht hd (by omega) (by omega) (by assumption)) | (exact isBits_0 (fun f _ _ => outX_0)) | grind [upI])
theorem vX3_out_16 (s : MS) (a1 : Int) (a2 : Int) (a3 : Int) (hp : tOK (s.2 6) ∧ aOK (s.2 6) (s.2 7) ∧ lOK ((s.2 5) 0) (s.2 6)) (x3 : Int) (x4 : Int) (x5 : Int) (x6 : Int) (x7 : Int) (x8 : Int) (f11 : Int → Int) (f12 : Int → Int) (f13 : Int → Int) (f14 : Int → Int) (f15 : Int → Int) (f16 : Int → Int) (f17 : Int → Int) (f18 : Int → Int) (f19 : Int → Int) (k0 : Int) (k25 : Int) (k33 : Int) (k34 : Int) (hI : k0 = 0 ∧ NXO (s.2 6) (s.2 7) f13 ∧ BS f18 (s.2 6 2) (crS (s.2 6) (s.2 7) (s.2 9) a1 a2.toNat) ∧ ((0 < s.2 5 0 ∧ (0 ≤ a1 ∧ a1 ≤ 3) ∧ 0 ≤ a2 ∧ a2 ≤ 200) ∧ x3 = a3 ∧ 0 ≤ a3 ∧ a3 ≤ s.2 6 2 / s.2 6 0 - 1) ∧ (0 ≤ x5 ∧ x5 < s.2 6 2) ∧ isBits (fun f => outX (s.2 6) (crS (s.2 6) (s.2 7) (s.2 9) a1 a2.toNat) a3 x5 f ∨ outZ (s.2 6) a3 x5 x6 f) x4 ∧ (crS (s.2 6) (s.2 7) (s.2 9) a1 a2.toNat) x5 ∧ (0 ≤ x6 ∧ x6 < s.2 6 1) ∧ (∀ i : Int, 0 ≤ i → i < s.2 6 1 → f11 i = dig (s.2 6 0) (s.2 6 1) x5 i) ∧ (0 ≤ x8 ∧ x8 ≤ s.2 6 1) ∧ x7 = skp (s.2 6 0) x6 (dig (s.2 6 0) (s.2 6 1) x5) x8.toNat) (c_1 : (s.2 6 1) ≤ x8) (c_2 : x7 = x3) (o_3 : (0 ≤ x6 ∧ x6 < 8)) : k0 = 0 ∧ NXO (s.2 6) (s.2 7) f13 ∧ BS f18 (s.2 6 2) (crS (s.2 6) (s.2 7) (s.2 9) a1 a2.toNat) ∧ ((0 < s.2 5 0 ∧ (0 ≤ a1 ∧ a1 ≤ 3) ∧ 0 ≤ a2 ∧ a2 ≤ 200) ∧ x3 = a3 ∧ 0 ≤ a3 ∧ a3 ≤ s.2 6 2 / s.2 6 0 - 1) ∧ (0 ≤ x5 ∧ x5 < s.2 6 2) ∧ isBits (fun f => outX (s.2 6) (crS (s.2 6) (s.2 7) (s.2 9) a1 a2.toNat) a3 x5 f ∨ outZ (s.2 6) a3 x5 (i32 (x6 + 1)) f) (jor x4 (jshl 1 (f11 x6))) ∧ (crS (s.2 6) (s.2 7) (s.2 9) a1 a2.toNat) x5 ∧ (0 ≤ (i32 (x6 + 1)) ∧ (i32 (x6 + 1)) ≤ s.2 6 1) ∧ ∀ i : Int, 0 ≤ i → i < s.2 6 1 → f11 i = dig (s.2 6 0) (s.2 6 1) x5 i := by
  obtain ⟨ht, ha, hl⟩ := hp
  have hN := tOK_N ht
  have hL := tOK_L ht
  (try simp only [bI_0, bI_n, Classical.not_not] at *)
  (try have hN2 : 0 < s.2 6 2 := lOK_N ht hl (by omega))
  (try have hq := ‹NXO _ _ _ ∧ BS _ _ _›)
  (try have hq := And.intro hI.2.1 hI.2.2.1)
  (try have hb0 := hl.2.mp (by omega))
  (try (have hdv := i32_dv (N := s.2 6 2) (B := s.2 6 0) (by omega) (by omega) hb0; rw [hdv] at c_5))
  (try (have hd := dig_in' (x := x5) ht))
  (try have hdk := hd x6 (by omega) (by omega))
  (try have hsk := skp_ub (d := x6) ht hd (n := x8.toNat) (by omega))
  (try unfold lex3)
  (try simp only [bI_0, bI_n, Classical.not_not] at *)
  (try simp (disch := omega) only [i32_id] at *)
  first | done | omega | ((repeat' (with_reducible apply And.intro)) <;> first | assumption | rfl | omega | (exact hI.1) | (exact hq.1) | (exact hq.2) | (unfold rOut; rw [if_neg (by omega)]) | (exact BS_01 hq.2) | (unfold rOut; rw [if_pos (by omega)]; exact bits_eq (by rw [show s.2 6 2 = x5 by omega]; exact hI.2.2.2.2.2)) | (exact isBits_e hI.2.2.2.2.2 (fun g => ⟨fun h => h.elim id (fun q => absurd q outZ_0), Or.inl⟩)) | (exact (BS_cr hq.2 x5).mp ⟨⟨by omega, by omega⟩, (BS_01 hq.2 x5 (by omega) (by omega)).resolve_left c_3⟩) | (intro i h0 h1; exact figs_at h0 h1) | (exact isBits_e hI.2.2.2.2.2 (fun g => outX_n (fun q => by have := ((BS_cr hq.2 x5).mpr q).2; omega))) | (exact isBits_e hI.2.2.2.2.2.1 (fun g => (outX_y (by omega) hI.2.2.2.2.2.2.1).trans (by rw [show s.2 6 1 = x6 by omega]))) | (exact hI.2.2.2.2.2.1) | (exact hI.2.2.2.2.2.2.1) | (exact hI.2.2.2.2.2.2.2.2) | (exact hI.2.2.2.2.2.2.2.2.1) | (exact isBits_e hI.2.2.2.2.2.1 (fun g => or_congr Iff.rfl (outZ_n (by rw [show (s.2 6 1).toNat = x8.toNat by omega, ← hI.2.2.2.2.2.2.2.2.2.2]; omega)))) | (rw [hI.2.2.2.2.2.2.2.2.1 x6 (by omega) (by omega)]; exact isBits_s hI.2.2.2.2.2.1 hdk.1 (by have := tOK_B ht; omega) (fun g => (or_congr Iff.rfl (outZ_y (by omega) (by rw [show (s.2 6 1).toNat = x8.toNat by omega, ← hI.2.2.2.2.2.2.2.2.2.2]; omega))).trans or_assoc.symm)) | (rw [hI.2.2.2.2.2.2.2.2.2.2]; exact skp_skip (by omega) (by omega)) | (rw [hI.2.2.2.2.2.2.2.2.2.2, hI.2.2.2.2.2.2.2.2.1 x8 (by omega) (by omega)]; exact skp_step ht hd (by omega) (by omega) (by assumption)) | (exact isBits_0 (fun f _ _ => outX_0)) | grind [upI])
theorem vX3_out_17 (s : MS) (a1 : Int) (a2 : Int) (a3 : Int) (hp : tOK (s.2 6) ∧ aOK (s.2 6) (s.2 7) ∧ lOK ((s.2 5) 0) (s.2 6)) (x3 : Int) (x4 : Int) (x5 : Int) (x6 : Int) (x7 : Int) (x8 : Int) (f11 : Int → Int) (f12 : Int → Int) (f13 : Int → Int) (f14 : Int → Int) (f15 : Int → Int) (f16 : Int → Int) (f17 : Int → Int) (f18 : Int → Int) (f19 : Int → Int) (k0 : Int) (k25 : Int) (k33 : Int) (k34 : Int) (hI : k0 = 0 ∧ NXO (s.2 6) (s.2 7) f13 ∧ BS f18 (s.2 6 2) (crS (s.2 6) (s.2 7) (s.2 9) a1 a2.toNat) ∧ ((0 < s.2 5 0 ∧ (0 ≤ a1 ∧ a1 ≤ 3) ∧ 0 ≤ a2 ∧ a2 ≤ 200) ∧ x3 = a3 ∧ 0 ≤ a3 ∧ a3 ≤ s.2 6 2 / s.2 6 0 - 1) ∧ (0 ≤ x5 ∧ x5 < s.2 6 2) ∧ isBits (fun f => outX (s.2 6) (crS (s.2 6) (s.2 7) (s.2 9) a1 a2.toNat) a3 x5 f ∨ outZ (s.2 6) a3 x5 x6 f) x4 ∧ (crS (s.2 6) (s.2 7) (s.2 9) a1 a2.toNat) x5 ∧ (0 ≤ x6 ∧ x6 < s.2 6 1) ∧ (∀ i : Int, 0 ≤ i → i < s.2 6 1 → f11 i = dig (s.2 6 0) (s.2 6 1) x5 i) ∧ (0 ≤ x8 ∧ x8 ≤ s.2 6 1) ∧ x7 = skp (s.2 6 0) x6 (dig (s.2 6 0) (s.2 6 1) x5) x8.toNat) (c_1 : (s.2 6 1) ≤ x8) (c_2 : x7 = x3) (o_3 : (0 ≤ x6 ∧ x6 < 8)) : lex3 ((s.2 6 2 - x5).toNat - 1) ((s.2 6 1 - (i32 (x6 + 1))).toNat + 1) 0 ((s.2 6 2 - x5).toNat - 1) ((s.2 6 1 - x6).toNat) ((s.2 6 1 - x8).toNat + 1) := by
  obtain ⟨ht, ha, hl⟩ := hp
  have hN := tOK_N ht
  have hL := tOK_L ht
  (try simp only [bI_0, bI_n, Classical.not_not] at *)
  (try have hN2 : 0 < s.2 6 2 := lOK_N ht hl (by omega))
  (try have hq := ‹NXO _ _ _ ∧ BS _ _ _›)
  (try have hq := And.intro hI.2.1 hI.2.2.1)
  (try have hb0 := hl.2.mp (by omega))
  (try (have hdv := i32_dv (N := s.2 6 2) (B := s.2 6 0) (by omega) (by omega) hb0; rw [hdv] at c_5))
  (try (have hd := dig_in' (x := x5) ht))
  (try have hdk := hd x6 (by omega) (by omega))
  (try have hsk := skp_ub (d := x6) ht hd (n := x8.toNat) (by omega))
  (try unfold lex3)
  (try simp only [bI_0, bI_n, Classical.not_not] at *)
  (try simp (disch := omega) only [i32_id] at *)
  first | done | omega | ((repeat' (with_reducible apply And.intro)) <;> first | assumption | rfl | omega | (exact hI.1) | (exact hq.1) | (exact hq.2) | (unfold rOut; rw [if_neg (by omega)]) | (exact BS_01 hq.2) | (unfold rOut; rw [if_pos (by omega)]; exact bits_eq (by rw [show s.2 6 2 = x5 by omega]; exact hI.2.2.2.2.2)) | (exact isBits_e hI.2.2.2.2.2 (fun g => ⟨fun h => h.elim id (fun q => absurd q outZ_0), Or.inl⟩)) | (exact (BS_cr hq.2 x5).mp ⟨⟨by omega, by omega⟩, (BS_01 hq.2 x5 (by omega) (by omega)).resolve_left c_3⟩) | (intro i h0 h1; exact figs_at h0 h1) | (exact isBits_e hI.2.2.2.2.2 (fun g => outX_n (fun q => by have := ((BS_cr hq.2 x5).mpr q).2; omega))) | (exact isBits_e hI.2.2.2.2.2.1 (fun g => (outX_y (by omega) hI.2.2.2.2.2.2.1).trans (by rw [show s.2 6 1 = x6 by omega]))) | (exact hI.2.2.2.2.2.1) | (exact hI.2.2.2.2.2.2.1) | (exact hI.2.2.2.2.2.2.2.2) | (exact hI.2.2.2.2.2.2.2.2.1) | (exact isBits_e hI.2.2.2.2.2.1 (fun g => or_congr Iff.rfl (outZ_n (by rw [show (s.2 6 1).toNat = x8.toNat by omega, ← hI.2.2.2.2.2.2.2.2.2.2]; omega)))) | (rw [hI.2.2.2.2.2.2.2.2.1 x6 (by omega) (by omega)]; exact isBits_s hI.2.2.2.2.2.1 hdk.1 (by have := tOK_B ht; omega) (fun g => (or_congr Iff.rfl (outZ_y (by omega) (by rw [show (s.2 6 1).toNat = x8.toNat by omega, ← hI.2.2.2.2.2.2.2.2.2.2]; omega))).trans or_assoc.symm)) | (rw [hI.2.2.2.2.2.2.2.2.2.2]; exact skp_skip (by omega) (by omega)) | (rw [hI.2.2.2.2.2.2.2.2.2.2, hI.2.2.2.2.2.2.2.2.1 x8 (by omega) (by omega)]; exact skp_step ht hd (by omega) (by omega) (by assumption)) | (exact isBits_0 (fun f _ _ => outX_0)) | grind [upI])
theorem vX3_out_18 (s : MS) (a1 : Int) (a2 : Int) (a3 : Int) (hp : tOK (s.2 6) ∧ aOK (s.2 6) (s.2 7) ∧ lOK ((s.2 5) 0) (s.2 6)) (x3 : Int) (x4 : Int) (x5 : Int) (x6 : Int) (x7 : Int) (x8 : Int) (f11 : Int → Int) (f12 : Int → Int) (f13 : Int → Int) (f14 : Int → Int) (f15 : Int → Int) (f16 : Int → Int) (f17 : Int → Int) (f18 : Int → Int) (f19 : Int → Int) (k0 : Int) (k25 : Int) (k33 : Int) (k34 : Int) (hI : k0 = 0 ∧ NXO (s.2 6) (s.2 7) f13 ∧ BS f18 (s.2 6 2) (crS (s.2 6) (s.2 7) (s.2 9) a1 a2.toNat) ∧ ((0 < s.2 5 0 ∧ (0 ≤ a1 ∧ a1 ≤ 3) ∧ 0 ≤ a2 ∧ a2 ≤ 200) ∧ x3 = a3 ∧ 0 ≤ a3 ∧ a3 ≤ s.2 6 2 / s.2 6 0 - 1) ∧ (0 ≤ x5 ∧ x5 < s.2 6 2) ∧ isBits (fun f => outX (s.2 6) (crS (s.2 6) (s.2 7) (s.2 9) a1 a2.toNat) a3 x5 f ∨ outZ (s.2 6) a3 x5 x6 f) x4 ∧ (crS (s.2 6) (s.2 7) (s.2 9) a1 a2.toNat) x5 ∧ (0 ≤ x6 ∧ x6 < s.2 6 1) ∧ (∀ i : Int, 0 ≤ i → i < s.2 6 1 → f11 i = dig (s.2 6 0) (s.2 6 1) x5 i) ∧ (0 ≤ x8 ∧ x8 ≤ s.2 6 1) ∧ x7 = skp (s.2 6 0) x6 (dig (s.2 6 0) (s.2 6 1) x5) x8.toNat) (c_1 : ¬ (s.2 6 1) ≤ x8) (c_4 : x8 = x6) : k0 = 0 ∧ NXO (s.2 6) (s.2 7) f13 ∧ BS f18 (s.2 6 2) (crS (s.2 6) (s.2 7) (s.2 9) a1 a2.toNat) ∧ ((0 < s.2 5 0 ∧ (0 ≤ a1 ∧ a1 ≤ 3) ∧ 0 ≤ a2 ∧ a2 ≤ 200) ∧ x3 = a3 ∧ 0 ≤ a3 ∧ a3 ≤ s.2 6 2 / s.2 6 0 - 1) ∧ (0 ≤ x5 ∧ x5 < s.2 6 2) ∧ isBits (fun f => outX (s.2 6) (crS (s.2 6) (s.2 7) (s.2 9) a1 a2.toNat) a3 x5 f ∨ outZ (s.2 6) a3 x5 x6 f) x4 ∧ (crS (s.2 6) (s.2 7) (s.2 9) a1 a2.toNat) x5 ∧ (0 ≤ x6 ∧ x6 < s.2 6 1) ∧ (∀ i : Int, 0 ≤ i → i < s.2 6 1 → f11 i = dig (s.2 6 0) (s.2 6 1) x5 i) ∧ (0 ≤ (i32 (x8 + 1)) ∧ (i32 (x8 + 1)) ≤ s.2 6 1) ∧ x7 = skp (s.2 6 0) x6 (dig (s.2 6 0) (s.2 6 1) x5) (i32 (x8 + 1)).toNat := by
  obtain ⟨ht, ha, hl⟩ := hp
  have hN := tOK_N ht
  have hL := tOK_L ht
  (try simp only [bI_0, bI_n, Classical.not_not] at *)
  (try have hN2 : 0 < s.2 6 2 := lOK_N ht hl (by omega))
  (try have hq := ‹NXO _ _ _ ∧ BS _ _ _›)
  (try have hq := And.intro hI.2.1 hI.2.2.1)
  (try have hb0 := hl.2.mp (by omega))
  (try (have hdv := i32_dv (N := s.2 6 2) (B := s.2 6 0) (by omega) (by omega) hb0; rw [hdv] at c_5))
  (try (have hd := dig_in' (x := x5) ht))
  (try have hdk := hd x6 (by omega) (by omega))
  (try have hsk := skp_ub (d := x6) ht hd (n := x8.toNat) (by omega))
  (try unfold lex3)
  (try simp only [bI_0, bI_n, Classical.not_not] at *)
  (try simp (disch := omega) only [i32_id] at *)
  first | done | omega | ((repeat' (with_reducible apply And.intro)) <;> first | assumption | rfl | omega | (exact hI.1) | (exact hq.1) | (exact hq.2) | (unfold rOut; rw [if_neg (by omega)]) | (exact BS_01 hq.2) | (unfold rOut; rw [if_pos (by omega)]; exact bits_eq (by rw [show s.2 6 2 = x5 by omega]; exact hI.2.2.2.2.2)) | (exact isBits_e hI.2.2.2.2.2 (fun g => ⟨fun h => h.elim id (fun q => absurd q outZ_0), Or.inl⟩)) | (exact (BS_cr hq.2 x5).mp ⟨⟨by omega, by omega⟩, (BS_01 hq.2 x5 (by omega) (by omega)).resolve_left c_3⟩) | (intro i h0 h1; exact figs_at h0 h1) | (exact isBits_e hI.2.2.2.2.2 (fun g => outX_n (fun q => by have := ((BS_cr hq.2 x5).mpr q).2; omega))) | (exact isBits_e hI.2.2.2.2.2.1 (fun g => (outX_y (by omega) hI.2.2.2.2.2.2.1).trans (by rw [show s.2 6 1 = x6 by omega]))) | (exact hI.2.2.2.2.2.1) | (exact hI.2.2.2.2.2.2.1) | (exact hI.2.2.2.2.2.2.2.2) | (exact hI.2.2.2.2.2.2.2.2.1) | (exact isBits_e hI.2.2.2.2.2.1 (fun g => or_congr Iff.rfl (outZ_n (by rw [show (s.2 6 1).toNat = x8.toNat by omega, ← hI.2.2.2.2.2.2.2.2.2.2]; omega)))) | (rw [hI.2.2.2.2.2.2.2.2.1 x6 (by omega) (by omega)]; exact isBits_s hI.2.2.2.2.2.1 hdk.1 (by have := tOK_B ht; omega) (fun g => (or_congr Iff.rfl (outZ_y (by omega) (by rw [show (s.2 6 1).toNat = x8.toNat by omega, ← hI.2.2.2.2.2.2.2.2.2.2]; omega))).trans or_assoc.symm)) | (rw [hI.2.2.2.2.2.2.2.2.2.2]; exact skp_skip (by omega) (by omega)) | (rw [hI.2.2.2.2.2.2.2.2.2.2, hI.2.2.2.2.2.2.2.2.1 x8 (by omega) (by omega)]; exact skp_step ht hd (by omega) (by omega) (by assumption)) | (exact isBits_0 (fun f _ _ => outX_0)) | grind [upI])
theorem vX3_out_19 (s : MS) (a1 : Int) (a2 : Int) (a3 : Int) (hp : tOK (s.2 6) ∧ aOK (s.2 6) (s.2 7) ∧ lOK ((s.2 5) 0) (s.2 6)) (x3 : Int) (x4 : Int) (x5 : Int) (x6 : Int) (x7 : Int) (x8 : Int) (f11 : Int → Int) (f12 : Int → Int) (f13 : Int → Int) (f14 : Int → Int) (f15 : Int → Int) (f16 : Int → Int) (f17 : Int → Int) (f18 : Int → Int) (f19 : Int → Int) (k0 : Int) (k25 : Int) (k33 : Int) (k34 : Int) (hI : k0 = 0 ∧ NXO (s.2 6) (s.2 7) f13 ∧ BS f18 (s.2 6 2) (crS (s.2 6) (s.2 7) (s.2 9) a1 a2.toNat) ∧ ((0 < s.2 5 0 ∧ (0 ≤ a1 ∧ a1 ≤ 3) ∧ 0 ≤ a2 ∧ a2 ≤ 200) ∧ x3 = a3 ∧ 0 ≤ a3 ∧ a3 ≤ s.2 6 2 / s.2 6 0 - 1) ∧ (0 ≤ x5 ∧ x5 < s.2 6 2) ∧ isBits (fun f => outX (s.2 6) (crS (s.2 6) (s.2 7) (s.2 9) a1 a2.toNat) a3 x5 f ∨ outZ (s.2 6) a3 x5 x6 f) x4 ∧ (crS (s.2 6) (s.2 7) (s.2 9) a1 a2.toNat) x5 ∧ (0 ≤ x6 ∧ x6 < s.2 6 1) ∧ (∀ i : Int, 0 ≤ i → i < s.2 6 1 → f11 i = dig (s.2 6 0) (s.2 6 1) x5 i) ∧ (0 ≤ x8 ∧ x8 ≤ s.2 6 1) ∧ x7 = skp (s.2 6 0) x6 (dig (s.2 6 0) (s.2 6 1) x5) x8.toNat) (c_1 : ¬ (s.2 6 1) ≤ x8) (c_4 : x8 = x6) : lex3 ((s.2 6 2 - x5).toNat - 1) ((s.2 6 1 - x6).toNat) ((s.2 6 1 - (i32 (x8 + 1))).toNat + 1) ((s.2 6 2 - x5).toNat - 1) ((s.2 6 1 - x6).toNat) ((s.2 6 1 - x8).toNat + 1) := by
  obtain ⟨ht, ha, hl⟩ := hp
  have hN := tOK_N ht
  have hL := tOK_L ht
  (try simp only [bI_0, bI_n, Classical.not_not] at *)
  (try have hN2 : 0 < s.2 6 2 := lOK_N ht hl (by omega))
  (try have hq := ‹NXO _ _ _ ∧ BS _ _ _›)
  (try have hq := And.intro hI.2.1 hI.2.2.1)
  (try have hb0 := hl.2.mp (by omega))
  (try (have hdv := i32_dv (N := s.2 6 2) (B := s.2 6 0) (by omega) (by omega) hb0; rw [hdv] at c_5))
  (try (have hd := dig_in' (x := x5) ht))
  (try have hdk := hd x6 (by omega) (by omega))
  (try have hsk := skp_ub (d := x6) ht hd (n := x8.toNat) (by omega))
  (try unfold lex3)
  (try simp only [bI_0, bI_n, Classical.not_not] at *)
  (try simp (disch := omega) only [i32_id] at *)
  first | done | omega | ((repeat' (with_reducible apply And.intro)) <;> first | assumption | rfl | omega | (exact hI.1) | (exact hq.1) | (exact hq.2) | (unfold rOut; rw [if_neg (by omega)]) | (exact BS_01 hq.2) | (unfold rOut; rw [if_pos (by omega)]; exact bits_eq (by rw [show s.2 6 2 = x5 by omega]; exact hI.2.2.2.2.2)) | (exact isBits_e hI.2.2.2.2.2 (fun g => ⟨fun h => h.elim id (fun q => absurd q outZ_0), Or.inl⟩)) | (exact (BS_cr hq.2 x5).mp ⟨⟨by omega, by omega⟩, (BS_01 hq.2 x5 (by omega) (by omega)).resolve_left c_3⟩) | (intro i h0 h1; exact figs_at h0 h1) | (exact isBits_e hI.2.2.2.2.2 (fun g => outX_n (fun q => by have := ((BS_cr hq.2 x5).mpr q).2; omega))) | (exact isBits_e hI.2.2.2.2.2.1 (fun g => (outX_y (by omega) hI.2.2.2.2.2.2.1).trans (by rw [show s.2 6 1 = x6 by omega]))) | (exact hI.2.2.2.2.2.1) | (exact hI.2.2.2.2.2.2.1) | (exact hI.2.2.2.2.2.2.2.2) | (exact hI.2.2.2.2.2.2.2.2.1) | (exact isBits_e hI.2.2.2.2.2.1 (fun g => or_congr Iff.rfl (outZ_n (by rw [show (s.2 6 1).toNat = x8.toNat by omega, ← hI.2.2.2.2.2.2.2.2.2.2]; omega)))) | (rw [hI.2.2.2.2.2.2.2.2.1 x6 (by omega) (by omega)]; exact isBits_s hI.2.2.2.2.2.1 hdk.1 (by have := tOK_B ht; omega) (fun g => (or_congr Iff.rfl (outZ_y (by omega) (by rw [show (s.2 6 1).toNat = x8.toNat by omega, ← hI.2.2.2.2.2.2.2.2.2.2]; omega))).trans or_assoc.symm)) | (rw [hI.2.2.2.2.2.2.2.2.2.2]; exact skp_skip (by omega) (by omega)) | (rw [hI.2.2.2.2.2.2.2.2.2.2, hI.2.2.2.2.2.2.2.2.1 x8 (by omega) (by omega)]; exact skp_step ht hd (by omega) (by omega) (by assumption)) | (exact isBits_0 (fun f _ _ => outX_0)) | grind [upI])
theorem vX3_out_20 (s : MS) (a1 : Int) (a2 : Int) (a3 : Int) (hp : tOK (s.2 6) ∧ aOK (s.2 6) (s.2 7) ∧ lOK ((s.2 5) 0) (s.2 6)) (x3 : Int) (x4 : Int) (x5 : Int) (x6 : Int) (x7 : Int) (x8 : Int) (f11 : Int → Int) (f12 : Int → Int) (f13 : Int → Int) (f14 : Int → Int) (f15 : Int → Int) (f16 : Int → Int) (f17 : Int → Int) (f18 : Int → Int) (f19 : Int → Int) (k0 : Int) (k25 : Int) (k33 : Int) (k34 : Int) (hI : k0 = 0 ∧ NXO (s.2 6) (s.2 7) f13 ∧ BS f18 (s.2 6 2) (crS (s.2 6) (s.2 7) (s.2 9) a1 a2.toNat) ∧ ((0 < s.2 5 0 ∧ (0 ≤ a1 ∧ a1 ≤ 3) ∧ 0 ≤ a2 ∧ a2 ≤ 200) ∧ x3 = a3 ∧ 0 ≤ a3 ∧ a3 ≤ s.2 6 2 / s.2 6 0 - 1) ∧ (0 ≤ x5 ∧ x5 < s.2 6 2) ∧ isBits (fun f => outX (s.2 6) (crS (s.2 6) (s.2 7) (s.2 9) a1 a2.toNat) a3 x5 f ∨ outZ (s.2 6) a3 x5 x6 f) x4 ∧ (crS (s.2 6) (s.2 7) (s.2 9) a1 a2.toNat) x5 ∧ (0 ≤ x6 ∧ x6 < s.2 6 1) ∧ (∀ i : Int, 0 ≤ i → i < s.2 6 1 → f11 i = dig (s.2 6 0) (s.2 6 1) x5 i) ∧ (0 ≤ x8 ∧ x8 ≤ s.2 6 1) ∧ x7 = skp (s.2 6 0) x6 (dig (s.2 6 0) (s.2 6 1) x5) x8.toNat) (c_1 : ¬ (s.2 6 1) ≤ x8) (c_4 : ¬ x8 = x6) : (0 ≤ x8 ∧ x8 < 8) := by
  obtain ⟨ht, ha, hl⟩ := hp
  have hN := tOK_N ht
  have hL := tOK_L ht
  (try simp only [bI_0, bI_n, Classical.not_not] at *)
  (try have hN2 : 0 < s.2 6 2 := lOK_N ht hl (by omega))
  (try have hq := ‹NXO _ _ _ ∧ BS _ _ _›)
  (try have hq := And.intro hI.2.1 hI.2.2.1)
  (try have hb0 := hl.2.mp (by omega))
  (try (have hdv := i32_dv (N := s.2 6 2) (B := s.2 6 0) (by omega) (by omega) hb0; rw [hdv] at c_5))
  (try (have hd := dig_in' (x := x5) ht))
  (try have hdk := hd x6 (by omega) (by omega))
  (try have hsk := skp_ub (d := x6) ht hd (n := x8.toNat) (by omega))
  (try unfold lex3)
  (try simp only [bI_0, bI_n, Classical.not_not] at *)
  (try simp (disch := omega) only [i32_id] at *)
  first | done | omega | ((repeat' (with_reducible apply And.intro)) <;> first | assumption | rfl | omega | (exact hI.1) | (exact hq.1) | (exact hq.2) | (unfold rOut; rw [if_neg (by omega)]) | (exact BS_01 hq.2) | (unfold rOut; rw [if_pos (by omega)]; exact bits_eq (by rw [show s.2 6 2 = x5 by omega]; exact hI.2.2.2.2.2)) | (exact isBits_e hI.2.2.2.2.2 (fun g => ⟨fun h => h.elim id (fun q => absurd q outZ_0), Or.inl⟩)) | (exact (BS_cr hq.2 x5).mp ⟨⟨by omega, by omega⟩, (BS_01 hq.2 x5 (by omega) (by omega)).resolve_left c_3⟩) | (intro i h0 h1; exact figs_at h0 h1) | (exact isBits_e hI.2.2.2.2.2 (fun g => outX_n (fun q => by have := ((BS_cr hq.2 x5).mpr q).2; omega))) | (exact isBits_e hI.2.2.2.2.2.1 (fun g => (outX_y (by omega) hI.2.2.2.2.2.2.1).trans (by rw [show s.2 6 1 = x6 by omega]))) | (exact hI.2.2.2.2.2.1) | (exact hI.2.2.2.2.2.2.1) | (exact hI.2.2.2.2.2.2.2.2) | (exact hI.2.2.2.2.2.2.2.2.1) | (exact isBits_e hI.2.2.2.2.2.1 (fun g => or_congr Iff.rfl (outZ_n (by rw [show (s.2 6 1).toNat = x8.toNat by omega, ← hI.2.2.2.2.2.2.2.2.2.2]; omega)))) | (rw [hI.2.2.2.2.2.2.2.2.1 x6 (by omega) (by omega)]; exact isBits_s hI.2.2.2.2.2.1 hdk.1 (by have := tOK_B ht; omega) (fun g => (or_congr Iff.rfl (outZ_y (by omega) (by rw [show (s.2 6 1).toNat = x8.toNat by omega, ← hI.2.2.2.2.2.2.2.2.2.2]; omega))).trans or_assoc.symm)) | (rw [hI.2.2.2.2.2.2.2.2.2.2]; exact skp_skip (by omega) (by omega)) | (rw [hI.2.2.2.2.2.2.2.2.2.2, hI.2.2.2.2.2.2.2.2.1 x8 (by omega) (by omega)]; exact skp_step ht hd (by omega) (by omega) (by assumption)) | (exact isBits_0 (fun f _ _ => outX_0)) | grind [upI])
theorem vX3_out_21 (s : MS) (a1 : Int) (a2 : Int) (a3 : Int) (hp : tOK (s.2 6) ∧ aOK (s.2 6) (s.2 7) ∧ lOK ((s.2 5) 0) (s.2 6)) (x3 : Int) (x4 : Int) (x5 : Int) (x6 : Int) (x7 : Int) (x8 : Int) (f11 : Int → Int) (f12 : Int → Int) (f13 : Int → Int) (f14 : Int → Int) (f15 : Int → Int) (f16 : Int → Int) (f17 : Int → Int) (f18 : Int → Int) (f19 : Int → Int) (k0 : Int) (k25 : Int) (k33 : Int) (k34 : Int) (hI : k0 = 0 ∧ NXO (s.2 6) (s.2 7) f13 ∧ BS f18 (s.2 6 2) (crS (s.2 6) (s.2 7) (s.2 9) a1 a2.toNat) ∧ ((0 < s.2 5 0 ∧ (0 ≤ a1 ∧ a1 ≤ 3) ∧ 0 ≤ a2 ∧ a2 ≤ 200) ∧ x3 = a3 ∧ 0 ≤ a3 ∧ a3 ≤ s.2 6 2 / s.2 6 0 - 1) ∧ (0 ≤ x5 ∧ x5 < s.2 6 2) ∧ isBits (fun f => outX (s.2 6) (crS (s.2 6) (s.2 7) (s.2 9) a1 a2.toNat) a3 x5 f ∨ outZ (s.2 6) a3 x5 x6 f) x4 ∧ (crS (s.2 6) (s.2 7) (s.2 9) a1 a2.toNat) x5 ∧ (0 ≤ x6 ∧ x6 < s.2 6 1) ∧ (∀ i : Int, 0 ≤ i → i < s.2 6 1 → f11 i = dig (s.2 6 0) (s.2 6 1) x5 i) ∧ (0 ≤ x8 ∧ x8 ≤ s.2 6 1) ∧ x7 = skp (s.2 6 0) x6 (dig (s.2 6 0) (s.2 6 1) x5) x8.toNat) (c_1 : ¬ (s.2 6 1) ≤ x8) (c_4 : ¬ x8 = x6) (o_5 : (0 ≤ x8 ∧ x8 < 8)) : k0 = 0 ∧ NXO (s.2 6) (s.2 7) f13 ∧ BS f18 (s.2 6 2) (crS (s.2 6) (s.2 7) (s.2 9) a1 a2.toNat) ∧ ((0 < s.2 5 0 ∧ (0 ≤ a1 ∧ a1 ≤ 3) ∧ 0 ≤ a2 ∧ a2 ≤ 200) ∧ x3 = a3 ∧ 0 ≤ a3 ∧ a3 ≤ s.2 6 2 / s.2 6 0 - 1) ∧ (0 ≤ x5 ∧ x5 < s.2 6 2) ∧ isBits (fun f => outX (s.2 6) (crS (s.2 6) (s.2 7) (s.2 9) a1 a2.toNat) a3 x5 f ∨ outZ (s.2 6) a3 x5 x6 f) x4 ∧ (crS (s.2 6) (s.2 7) (s.2 9) a1 a2.toNat) x5 ∧ (0 ≤ x6 ∧ x6 < s.2 6 1) ∧ (∀ i : Int, 0 ≤ i → i < s.2 6 1 → f11 i = dig (s.2 6 0) (s.2 6 1) x5 i) ∧ (0 ≤ (i32 (x8 + 1)) ∧ (i32 (x8 + 1)) ≤ s.2 6 1) ∧ (i32 ((i32 (x7 * (s.2 6 0))) + (f11 x8))) = skp (s.2 6 0) x6 (dig (s.2 6 0) (s.2 6 1) x5) (i32 (x8 + 1)).toNat := by
  obtain ⟨ht, ha, hl⟩ := hp
  have hN := tOK_N ht
  have hL := tOK_L ht
  (try simp only [bI_0, bI_n, Classical.not_not] at *)
  (try have hN2 : 0 < s.2 6 2 := lOK_N ht hl (by omega))
  (try have hq := ‹NXO _ _ _ ∧ BS _ _ _›)
  (try have hq := And.intro hI.2.1 hI.2.2.1)
  (try have hb0 := hl.2.mp (by omega))
  (try (have hdv := i32_dv (N := s.2 6 2) (B := s.2 6 0) (by omega) (by omega) hb0; rw [hdv] at c_5))
  (try (have hd := dig_in' (x := x5) ht))
  (try have hdk := hd x6 (by omega) (by omega))
  (try have hsk := skp_ub (d := x6) ht hd (n := x8.toNat) (by omega))
  (try unfold lex3)
  (try simp only [bI_0, bI_n, Classical.not_not] at *)
  (try simp (disch := omega) only [i32_id] at *)
  first | done | omega | ((repeat' (with_reducible apply And.intro)) <;> first | assumption | rfl | omega | (exact hI.1) | (exact hq.1) | (exact hq.2) | (unfold rOut; rw [if_neg (by omega)]) | (exact BS_01 hq.2) | (unfold rOut; rw [if_pos (by omega)]; exact bits_eq (by rw [show s.2 6 2 = x5 by omega]; exact hI.2.2.2.2.2)) | (exact isBits_e hI.2.2.2.2.2 (fun g => ⟨fun h => h.elim id (fun q => absurd q outZ_0), Or.inl⟩)) | (exact (BS_cr hq.2 x5).mp ⟨⟨by omega, by omega⟩, (BS_01 hq.2 x5 (by omega) (by omega)).resolve_left c_3⟩) | (intro i h0 h1; exact figs_at h0 h1) | (exact isBits_e hI.2.2.2.2.2 (fun g => outX_n (fun q => by have := ((BS_cr hq.2 x5).mpr q).2; omega))) | (exact isBits_e hI.2.2.2.2.2.1 (fun g => (outX_y (by omega) hI.2.2.2.2.2.2.1).trans (by rw [show s.2 6 1 = x6 by omega]))) | (exact hI.2.2.2.2.2.1) | (exact hI.2.2.2.2.2.2.1) | (exact hI.2.2.2.2.2.2.2.2) | (exact hI.2.2.2.2.2.2.2.2.1) | (exact isBits_e hI.2.2.2.2.2.1 (fun g => or_congr Iff.rfl (outZ_n (by rw [show (s.2 6 1).toNat = x8.toNat by omega, ← hI.2.2.2.2.2.2.2.2.2.2]; omega)))) | (rw [hI.2.2.2.2.2.2.2.2.1 x6 (by omega) (by omega)]; exact isBits_s hI.2.2.2.2.2.1 hdk.1 (by have := tOK_B ht; omega) (fun g => (or_congr Iff.rfl (outZ_y (by omega) (by rw [show (s.2 6 1).toNat = x8.toNat by omega, ← hI.2.2.2.2.2.2.2.2.2.2]; omega))).trans or_assoc.symm)) | (rw [hI.2.2.2.2.2.2.2.2.2.2]; exact skp_skip (by omega) (by omega)) | (rw [hI.2.2.2.2.2.2.2.2.2.2, hI.2.2.2.2.2.2.2.2.1 x8 (by omega) (by omega)]; exact skp_step ht hd (by omega) (by omega) (by assumption)) | (exact isBits_0 (fun f _ _ => outX_0)) | grind [upI])
theorem vX3_out_22 (s : MS) (a1 : Int) (a2 : Int) (a3 : Int) (hp : tOK (s.2 6) ∧ aOK (s.2 6) (s.2 7) ∧ lOK ((s.2 5) 0) (s.2 6)) (x3 : Int) (x4 : Int) (x5 : Int) (x6 : Int) (x7 : Int) (x8 : Int) (f11 : Int → Int) (f12 : Int → Int) (f13 : Int → Int) (f14 : Int → Int) (f15 : Int → Int) (f16 : Int → Int) (f17 : Int → Int) (f18 : Int → Int) (f19 : Int → Int) (k0 : Int) (k25 : Int) (k33 : Int) (k34 : Int) (hI : k0 = 0 ∧ NXO (s.2 6) (s.2 7) f13 ∧ BS f18 (s.2 6 2) (crS (s.2 6) (s.2 7) (s.2 9) a1 a2.toNat) ∧ ((0 < s.2 5 0 ∧ (0 ≤ a1 ∧ a1 ≤ 3) ∧ 0 ≤ a2 ∧ a2 ≤ 200) ∧ x3 = a3 ∧ 0 ≤ a3 ∧ a3 ≤ s.2 6 2 / s.2 6 0 - 1) ∧ (0 ≤ x5 ∧ x5 < s.2 6 2) ∧ isBits (fun f => outX (s.2 6) (crS (s.2 6) (s.2 7) (s.2 9) a1 a2.toNat) a3 x5 f ∨ outZ (s.2 6) a3 x5 x6 f) x4 ∧ (crS (s.2 6) (s.2 7) (s.2 9) a1 a2.toNat) x5 ∧ (0 ≤ x6 ∧ x6 < s.2 6 1) ∧ (∀ i : Int, 0 ≤ i → i < s.2 6 1 → f11 i = dig (s.2 6 0) (s.2 6 1) x5 i) ∧ (0 ≤ x8 ∧ x8 ≤ s.2 6 1) ∧ x7 = skp (s.2 6 0) x6 (dig (s.2 6 0) (s.2 6 1) x5) x8.toNat) (c_1 : ¬ (s.2 6 1) ≤ x8) (c_4 : ¬ x8 = x6) (o_5 : (0 ≤ x8 ∧ x8 < 8)) : lex3 ((s.2 6 2 - x5).toNat - 1) ((s.2 6 1 - x6).toNat) ((s.2 6 1 - (i32 (x8 + 1))).toNat + 1) ((s.2 6 2 - x5).toNat - 1) ((s.2 6 1 - x6).toNat) ((s.2 6 1 - x8).toNat + 1) := by
  obtain ⟨ht, ha, hl⟩ := hp
  have hN := tOK_N ht
  have hL := tOK_L ht
  (try simp only [bI_0, bI_n, Classical.not_not] at *)
  (try have hN2 : 0 < s.2 6 2 := lOK_N ht hl (by omega))
  (try have hq := ‹NXO _ _ _ ∧ BS _ _ _›)
  (try have hq := And.intro hI.2.1 hI.2.2.1)
  (try have hb0 := hl.2.mp (by omega))
  (try (have hdv := i32_dv (N := s.2 6 2) (B := s.2 6 0) (by omega) (by omega) hb0; rw [hdv] at c_5))
  (try (have hd := dig_in' (x := x5) ht))
  (try have hdk := hd x6 (by omega) (by omega))
  (try have hsk := skp_ub (d := x6) ht hd (n := x8.toNat) (by omega))
  (try unfold lex3)
  (try simp only [bI_0, bI_n, Classical.not_not] at *)
  (try simp (disch := omega) only [i32_id] at *)
  first | done | omega | ((repeat' (with_reducible apply And.intro)) <;> first | assumption | rfl | omega | (exact hI.1) | (exact hq.1) | (exact hq.2) | (unfold rOut; rw [if_neg (by omega)]) | (exact BS_01 hq.2) | (unfold rOut; rw [if_pos (by omega)]; exact bits_eq (by rw [show s.2 6 2 = x5 by omega]; exact hI.2.2.2.2.2)) | (exact isBits_e hI.2.2.2.2.2 (fun g => ⟨fun h => h.elim id (fun q => absurd q outZ_0), Or.inl⟩)) | (exact (BS_cr hq.2 x5).mp ⟨⟨by omega, by omega⟩, (BS_01 hq.2 x5 (by omega) (by omega)).resolve_left c_3⟩) | (intro i h0 h1; exact figs_at h0 h1) | (exact isBits_e hI.2.2.2.2.2 (fun g => outX_n (fun q => by have := ((BS_cr hq.2 x5).mpr q).2; omega))) | (exact isBits_e hI.2.2.2.2.2.1 (fun g => (outX_y (by omega) hI.2.2.2.2.2.2.1).trans (by rw [show s.2 6 1 = x6 by omega]))) | (exact hI.2.2.2.2.2.1) | (exact hI.2.2.2.2.2.2.1) | (exact hI.2.2.2.2.2.2.2.2) | (exact hI.2.2.2.2.2.2.2.2.1) | (exact isBits_e hI.2.2.2.2.2.1 (fun g => or_congr Iff.rfl (outZ_n (by rw [show (s.2 6 1).toNat = x8.toNat by omega, ← hI.2.2.2.2.2.2.2.2.2.2]; omega)))) | (rw [hI.2.2.2.2.2.2.2.2.1 x6 (by omega) (by omega)]; exact isBits_s hI.2.2.2.2.2.1 hdk.1 (by have := tOK_B ht; omega) (fun g => (or_congr Iff.rfl (outZ_y (by omega) (by rw [show (s.2 6 1).toNat = x8.toNat by omega, ← hI.2.2.2.2.2.2.2.2.2.2]; omega))).trans or_assoc.symm)) | (rw [hI.2.2.2.2.2.2.2.2.2.2]; exact skp_skip (by omega) (by omega)) | (rw [hI.2.2.2.2.2.2.2.2.2.2, hI.2.2.2.2.2.2.2.2.1 x8 (by omega) (by omega)]; exact skp_step ht hd (by omega) (by omega) (by assumption)) | (exact isBits_0 (fun f _ _ => outX_0)) | grind [upI])
theorem vX3_out_23 (s : MS) (a1 : Int) (a2 : Int) (a3 : Int) (hp : tOK (s.2 6) ∧ aOK (s.2 6) (s.2 7) ∧ lOK ((s.2 5) 0) (s.2 6)) (c_2 : (bI (0 < (s.2 5) 0 ∧ (0 ≤ a1 ∧ a1 ≤ 3) ∧ 0 ≤ a2 ∧ a2 ≤ 200)) = 0) : (-2) = (rOut ((s.2 5) 0) (s.2 6) (s.2 7) (s.2 9) a1 a2 a3) := by
  obtain ⟨ht, ha, hl⟩ := hp
  have hN := tOK_N ht
  have hL := tOK_L ht
  (try simp only [bI_0, bI_n, Classical.not_not] at *)
  (try have hN2 : 0 < s.2 6 2 := lOK_N ht hl (by omega))
  (try have hq := ‹NXO _ _ _ ∧ BS _ _ _›)
  (try have hq := And.intro hI.2.1 hI.2.2.1)
  (try have hb0 := hl.2.mp (by omega))
  (try (have hdv := i32_dv (N := s.2 6 2) (B := s.2 6 0) (by omega) (by omega) hb0; rw [hdv] at c_5))
  (try (have hd := dig_in' (x := x5) ht))
  (try have hdk := hd x6 (by omega) (by omega))
  (try have hsk := skp_ub (d := x6) ht hd (n := x8.toNat) (by omega))
  (try unfold lex3)
  (try simp only [bI_0, bI_n, Classical.not_not] at *)
  (try simp (disch := omega) only [i32_id] at *)
  first | done | omega | ((repeat' (with_reducible apply And.intro)) <;> first | assumption | rfl | omega | (exact hI.1) | (exact hq.1) | (exact hq.2) | (unfold rOut; rw [if_neg (by omega)]) | (exact BS_01 hq.2) | (unfold rOut; rw [if_pos (by omega)]; exact bits_eq (by rw [show s.2 6 2 = x5 by omega]; exact hI.2.2.2.2.2)) | (exact isBits_e hI.2.2.2.2.2 (fun g => ⟨fun h => h.elim id (fun q => absurd q outZ_0), Or.inl⟩)) | (exact (BS_cr hq.2 x5).mp ⟨⟨by omega, by omega⟩, (BS_01 hq.2 x5 (by omega) (by omega)).resolve_left c_3⟩) | (intro i h0 h1; exact figs_at h0 h1) | (exact isBits_e hI.2.2.2.2.2 (fun g => outX_n (fun q => by have := ((BS_cr hq.2 x5).mpr q).2; omega))) | (exact isBits_e hI.2.2.2.2.2.1 (fun g => (outX_y (by omega) hI.2.2.2.2.2.2.1).trans (by rw [show s.2 6 1 = x6 by omega]))) | (exact hI.2.2.2.2.2.1) | (exact hI.2.2.2.2.2.2.1) | (exact hI.2.2.2.2.2.2.2.2) | (exact hI.2.2.2.2.2.2.2.2.1) | (exact isBits_e hI.2.2.2.2.2.1 (fun g => or_congr Iff.rfl (outZ_n (by rw [show (s.2 6 1).toNat = x8.toNat by omega, ← hI.2.2.2.2.2.2.2.2.2.2]; omega)))) | (rw [hI.2.2.2.2.2.2.2.2.1 x6 (by omega) (by omega)]; exact isBits_s hI.2.2.2.2.2.1 hdk.1 (by have := tOK_B ht; omega) (fun g => (or_congr Iff.rfl (outZ_y (by omega) (by rw [show (s.2 6 1).toNat = x8.toNat by omega, ← hI.2.2.2.2.2.2.2.2.2.2]; omega))).trans or_assoc.symm)) | (rw [hI.2.2.2.2.2.2.2.2.2.2]; exact skp_skip (by omega) (by omega)) | (rw [hI.2.2.2.2.2.2.2.2.2.2, hI.2.2.2.2.2.2.2.2.1 x8 (by omega) (by omega)]; exact skp_step ht hd (by omega) (by omega) (by assumption)) | (exact isBits_0 (fun f _ _ => outX_0)) | grind [upI])
theorem vX3_out_24 (s : MS) (a1 : Int) (a2 : Int) (a3 : Int) (hp : tOK (s.2 6) ∧ aOK (s.2 6) (s.2 7) ∧ lOK ((s.2 5) 0) (s.2 6)) (c_2 : ¬ (bI (0 < (s.2 5) 0 ∧ (0 ≤ a1 ∧ a1 ≤ 3) ∧ 0 ≤ a2 ∧ a2 ≤ 200)) = 0) : (s.2 6 0) ≠ 0 := by
  obtain ⟨ht, ha, hl⟩ := hp
  have hN := tOK_N ht
  have hL := tOK_L ht
  (try simp only [bI_0, bI_n, Classical.not_not] at *)
  (try have hN2 : 0 < s.2 6 2 := lOK_N ht hl (by omega))
  (try have hq := ‹NXO _ _ _ ∧ BS _ _ _›)
  (try have hq := And.intro hI.2.1 hI.2.2.1)
  (try have hb0 := hl.2.mp (by omega))
  (try (have hdv := i32_dv (N := s.2 6 2) (B := s.2 6 0) (by omega) (by omega) hb0; rw [hdv] at c_5))
  (try (have hd := dig_in' (x := x5) ht))
  (try have hdk := hd x6 (by omega) (by omega))
  (try have hsk := skp_ub (d := x6) ht hd (n := x8.toNat) (by omega))
  (try unfold lex3)
  (try simp only [bI_0, bI_n, Classical.not_not] at *)
  (try simp (disch := omega) only [i32_id] at *)
  first | done | omega | ((repeat' (with_reducible apply And.intro)) <;> first | assumption | rfl | omega | (exact hI.1) | (exact hq.1) | (exact hq.2) | (unfold rOut; rw [if_neg (by omega)]) | (exact BS_01 hq.2) | (unfold rOut; rw [if_pos (by omega)]; exact bits_eq (by rw [show s.2 6 2 = x5 by omega]; exact hI.2.2.2.2.2)) | (exact isBits_e hI.2.2.2.2.2 (fun g => ⟨fun h => h.elim id (fun q => absurd q outZ_0), Or.inl⟩)) | (exact (BS_cr hq.2 x5).mp ⟨⟨by omega, by omega⟩, (BS_01 hq.2 x5 (by omega) (by omega)).resolve_left c_3⟩) | (intro i h0 h1; exact figs_at h0 h1) | (exact isBits_e hI.2.2.2.2.2 (fun g => outX_n (fun q => by have := ((BS_cr hq.2 x5).mpr q).2; omega))) | (exact isBits_e hI.2.2.2.2.2.1 (fun g => (outX_y (by omega) hI.2.2.2.2.2.2.1).trans (by rw [show s.2 6 1 = x6 by omega]))) | (exact hI.2.2.2.2.2.1) | (exact hI.2.2.2.2.2.2.1) | (exact hI.2.2.2.2.2.2.2.2) | (exact hI.2.2.2.2.2.2.2.2.1) | (exact isBits_e hI.2.2.2.2.2.1 (fun g => or_congr Iff.rfl (outZ_n (by rw [show (s.2 6 1).toNat = x8.toNat by omega, ← hI.2.2.2.2.2.2.2.2.2.2]; omega)))) | (rw [hI.2.2.2.2.2.2.2.2.1 x6 (by omega) (by omega)]; exact isBits_s hI.2.2.2.2.2.1 hdk.1 (by have := tOK_B ht; omega) (fun g => (or_congr Iff.rfl (outZ_y (by omega) (by rw [show (s.2 6 1).toNat = x8.toNat by omega, ← hI.2.2.2.2.2.2.2.2.2.2]; omega))).trans or_assoc.symm)) | (rw [hI.2.2.2.2.2.2.2.2.2.2]; exact skp_skip (by omega) (by omega)) | (rw [hI.2.2.2.2.2.2.2.2.2.2, hI.2.2.2.2.2.2.2.2.1 x8 (by omega) (by omega)]; exact skp_step ht hd (by omega) (by omega) (by assumption)) | (exact isBits_0 (fun f _ _ => outX_0)) | grind [upI])
theorem vX3_out_25 (s : MS) (a1 : Int) (a2 : Int) (a3 : Int) (hp : tOK (s.2 6) ∧ aOK (s.2 6) (s.2 7) ∧ lOK ((s.2 5) 0) (s.2 6)) (c_2 : ¬ (bI (0 < (s.2 5) 0 ∧ (0 ≤ a1 ∧ a1 ≤ 3) ∧ 0 ≤ a2 ∧ a2 ≤ 200)) = 0) (o_3 : (s.2 6 0) ≠ 0) (c_5 : ¬ (bI ((0 : Int) ≤ a3 ∧ a3 ≤ (i32 ((i32 (Int.tdiv (s.2 6 2) (s.2 6 0))) - 1)))) = 0) : (tOK (s.2 6) ∧ aOK (s.2 6) (s.2 7) ∧ (0 ≤ a1 ∧ a1 ≤ 3) ∧ 0 ≤ a2 ∧ a2 ≤ 200) := by
  obtain ⟨ht, ha, hl⟩ := hp
  have hN := tOK_N ht
  have hL := tOK_L ht
  (try simp only [bI_0, bI_n, Classical.not_not] at *)
  (try have hN2 : 0 < s.2 6 2 := lOK_N ht hl (by omega))
  (try have hq := ‹NXO _ _ _ ∧ BS _ _ _›)
  (try have hq := And.intro hI.2.1 hI.2.2.1)
  (try have hb0 := hl.2.mp (by omega))
  (try (have hdv := i32_dv (N := s.2 6 2) (B := s.2 6 0) (by omega) (by omega) hb0; rw [hdv] at c_5))
  (try (have hd := dig_in' (x := x5) ht))
  (try have hdk := hd x6 (by omega) (by omega))
  (try have hsk := skp_ub (d := x6) ht hd (n := x8.toNat) (by omega))
  (try unfold lex3)
  (try simp only [bI_0, bI_n, Classical.not_not] at *)
  (try simp (disch := omega) only [i32_id] at *)
  first | done | omega | ((repeat' (with_reducible apply And.intro)) <;> first | assumption | rfl | omega | (exact hI.1) | (exact hq.1) | (exact hq.2) | (unfold rOut; rw [if_neg (by omega)]) | (exact BS_01 hq.2) | (unfold rOut; rw [if_pos (by omega)]; exact bits_eq (by rw [show s.2 6 2 = x5 by omega]; exact hI.2.2.2.2.2)) | (exact isBits_e hI.2.2.2.2.2 (fun g => ⟨fun h => h.elim id (fun q => absurd q outZ_0), Or.inl⟩)) | (exact (BS_cr hq.2 x5).mp ⟨⟨by omega, by omega⟩, (BS_01 hq.2 x5 (by omega) (by omega)).resolve_left c_3⟩) | (intro i h0 h1; exact figs_at h0 h1) | (exact isBits_e hI.2.2.2.2.2 (fun g => outX_n (fun q => by have := ((BS_cr hq.2 x5).mpr q).2; omega))) | (exact isBits_e hI.2.2.2.2.2.1 (fun g => (outX_y (by omega) hI.2.2.2.2.2.2.1).trans (by rw [show s.2 6 1 = x6 by omega]))) | (exact hI.2.2.2.2.2.1) | (exact hI.2.2.2.2.2.2.1) | (exact hI.2.2.2.2.2.2.2.2) | (exact hI.2.2.2.2.2.2.2.2.1) | (exact isBits_e hI.2.2.2.2.2.1 (fun g => or_congr Iff.rfl (outZ_n (by rw [show (s.2 6 1).toNat = x8.toNat by omega, ← hI.2.2.2.2.2.2.2.2.2.2]; omega)))) | (rw [hI.2.2.2.2.2.2.2.2.1 x6 (by omega) (by omega)]; exact isBits_s hI.2.2.2.2.2.1 hdk.1 (by have := tOK_B ht; omega) (fun g => (or_congr Iff.rfl (outZ_y (by omega) (by rw [show (s.2 6 1).toNat = x8.toNat by omega, ← hI.2.2.2.2.2.2.2.2.2.2]; omega))).trans or_assoc.symm)) | (rw [hI.2.2.2.2.2.2.2.2.2.2]; exact skp_skip (by omega) (by omega)) | (rw [hI.2.2.2.2.2.2.2.2.2.2, hI.2.2.2.2.2.2.2.2.1 x8 (by omega) (by omega)]; exact skp_step ht hd (by omega) (by omega) (by assumption)) | (exact isBits_0 (fun f _ _ => outX_0)) | grind [upI])
theorem vX3_out_26 (s : MS) (a1 : Int) (a2 : Int) (a3 : Int) (hp : tOK (s.2 6) ∧ aOK (s.2 6) (s.2 7) ∧ lOK ((s.2 5) 0) (s.2 6)) (c_2 : ¬ (bI (0 < (s.2 5) 0 ∧ (0 ≤ a1 ∧ a1 ≤ 3) ∧ 0 ≤ a2 ∧ a2 ≤ 200)) = 0) (o_3 : (s.2 6 0) ≠ 0) (c_5 : ¬ (bI ((0 : Int) ≤ a3 ∧ a3 ≤ (i32 ((i32 (Int.tdiv (s.2 6 2) (s.2 6 0))) - 1)))) = 0) (o_6 : (tOK (s.2 6) ∧ aOK (s.2 6) (s.2 7) ∧ (0 ≤ a1 ∧ a1 ≤ 3) ∧ 0 ≤ a2 ∧ a2 ≤ 200)) (f_7 : Int → Int) (f_8 : Int → Int) (f_9 : Int → Int) (f_10 : Int → Int) (f_11 : Int → Int) (k_12 : Int) (q_13 : (NXO (s.2 6) (s.2 7) f_9 ∧ BS f_10 ((s.2 6) 2) (crS (s.2 6) (s.2 7) (s.2 9) a1 (a2).toNat))) : (0 : Int) = 0 ∧ NXO (s.2 6) (s.2 7) f_9 ∧ BS f_10 (s.2 6 2) (crS (s.2 6) (s.2 7) (s.2 9) a1 a2.toNat) ∧ ((0 < s.2 5 0 ∧ (0 ≤ a1 ∧ a1 ≤ 3) ∧ 0 ≤ a2 ∧ a2 ≤ 200) ∧ a3 = a3 ∧ 0 ≤ a3 ∧ a3 ≤ s.2 6 2 / s.2 6 0 - 1) ∧ (0 ≤ (0 : Int) ∧ (0 : Int) ≤ s.2 6 2) ∧ isBits (outX (s.2 6) (crS (s.2 6) (s.2 7) (s.2 9) a1 a2.toNat) a3 (0 : Int)) (0 : Int) := by
  obtain ⟨ht, ha, hl⟩ := hp
  have hN := tOK_N ht
  have hL := tOK_L ht
  (try simp only [bI_0, bI_n, Classical.not_not] at *)
  (try have hN2 : 0 < s.2 6 2 := lOK_N ht hl (by omega))
  (try have hq := ‹NXO _ _ _ ∧ BS _ _ _›)
  (try have hq := And.intro hI.2.1 hI.2.2.1)
  (try have hb0 := hl.2.mp (by omega))
  (try (have hdv := i32_dv (N := s.2 6 2) (B := s.2 6 0) (by omega) (by omega) hb0; rw [hdv] at c_5))
  (try (have hd := dig_in' (x := x5) ht))
  (try have hdk := hd x6 (by omega) (by omega))
  (try have hsk := skp_ub (d := x6) ht hd (n := x8.toNat) (by omega))
  (try unfold lex3)
  (try simp only [bI_0, bI_n, Classical.not_not] at *)
  (try simp (disch := omega) only [i32_id] at *)
  first | done | omega | ((repeat' (with_reducible apply And.intro)) <;> first | assumption | rfl | omega | (exact hI.1) | (exact hq.1) | (exact hq.2) | (unfold rOut; rw [if_neg (by omega)]) | (exact BS_01 hq.2) | (unfold rOut; rw [if_pos (by omega)]; exact bits_eq (by rw [show s.2 6 2 = x5 by omega]; exact hI.2.2.2.2.2)) | (exact isBits_e hI.2.2.2.2.2 (fun g => ⟨fun h => h.elim id (fun q => absurd q outZ_0), Or.inl⟩)) | (exact (BS_cr hq.2 x5).mp ⟨⟨by omega, by omega⟩, (BS_01 hq.2 x5 (by omega) (by omega)).resolve_left c_3⟩) | (intro i h0 h1; exact figs_at h0 h1) | (exact isBits_e hI.2.2.2.2.2 (fun g => outX_n (fun q => by have := ((BS_cr hq.2 x5).mpr q).2; omega))) | (exact isBits_e hI.2.2.2.2.2.1 (fun g => (outX_y (by omega) hI.2.2.2.2.2.2.1).trans (by rw [show s.2 6 1 = x6 by omega]))) | (exact hI.2.2.2.2.2.1) | (exact hI.2.2.2.2.2.2.1) | (exact hI.2.2.2.2.2.2.2.2) | (exact hI.2.2.2.2.2.2.2.2.1) | (exact isBits_e hI.2.2.2.2.2.1 (fun g => or_congr Iff.rfl (outZ_n (by rw [show (s.2 6 1).toNat = x8.toNat by omega, ← hI.2.2.2.2.2.2.2.2.2.2]; omega)))) | (rw [hI.2.2.2.2.2.2.2.2.1 x6 (by omega) (by omega)]; exact isBits_s hI.2.2.2.2.2.1 hdk.1 (by have := tOK_B ht; omega) (fun g => (or_congr Iff.rfl (outZ_y (by omega) (by rw [show (s.2 6 1).toNat = x8.toNat by omega, ← hI.2.2.2.2.2.2.2.2.2.2]; omega))).trans or_assoc.symm)) | (rw [hI.2.2.2.2.2.2.2.2.2.2]; exact skp_skip (by omega) (by omega)) | (rw [hI.2.2.2.2.2.2.2.2.2.2, hI.2.2.2.2.2.2.2.2.1 x8 (by omega) (by omega)]; exact skp_step ht hd (by omega) (by omega) (by assumption)) | (exact isBits_0 (fun f _ _ => outX_0)) | grind [upI])
theorem vX3_out_27 (s : MS) (a1 : Int) (a2 : Int) (a3 : Int) (hp : tOK (s.2 6) ∧ aOK (s.2 6) (s.2 7) ∧ lOK ((s.2 5) 0) (s.2 6)) (c_2 : ¬ (bI (0 < (s.2 5) 0 ∧ (0 ≤ a1 ∧ a1 ≤ 3) ∧ 0 ≤ a2 ∧ a2 ≤ 200)) = 0) (o_3 : (s.2 6 0) ≠ 0) (c_5 : (bI ((0 : Int) ≤ a3 ∧ a3 ≤ (i32 ((i32 (Int.tdiv (s.2 6 2) (s.2 6 0))) - 1)))) = 0) : (-2) = (rOut ((s.2 5) 0) (s.2 6) (s.2 7) (s.2 9) a1 a2 a3) := by
  obtain ⟨ht, ha, hl⟩ := hp
  have hN := tOK_N ht
  have hL := tOK_L ht
  (try simp only [bI_0, bI_n, Classical.not_not] at *)
  (try have hN2 : 0 < s.2 6 2 := lOK_N ht hl (by omega))
  (try have hq := ‹NXO _ _ _ ∧ BS _ _ _›)
  (try have hq := And.intro hI.2.1 hI.2.2.1)
  (try have hb0 := hl.2.mp (by omega))
  (try (have hdv := i32_dv (N := s.2 6 2) (B := s.2 6 0) (by omega) (by omega) hb0; rw [hdv] at c_5))
  (try (have hd := dig_in' (x := x5) ht))
  (try have hdk := hd x6 (by omega) (by omega))
  (try have hsk := skp_ub (d := x6) ht hd (n := x8.toNat) (by omega))
  (try unfold lex3)
  (try simp only [bI_0, bI_n, Classical.not_not] at *)
  (try simp (disch := omega) only [i32_id] at *)
  first | done | omega | ((repeat' (with_reducible apply And.intro)) <;> first | assumption | rfl | omega | (exact hI.1) | (exact hq.1) | (exact hq.2) | (unfold rOut; rw [if_neg (by omega)]) | (exact BS_01 hq.2) | (unfold rOut; rw [if_pos (by omega)]; exact bits_eq (by rw [show s.2 6 2 = x5 by omega]; exact hI.2.2.2.2.2)) | (exact isBits_e hI.2.2.2.2.2 (fun g => ⟨fun h => h.elim id (fun q => absurd q outZ_0), Or.inl⟩)) | (exact (BS_cr hq.2 x5).mp ⟨⟨by omega, by omega⟩, (BS_01 hq.2 x5 (by omega) (by omega)).resolve_left c_3⟩) | (intro i h0 h1; exact figs_at h0 h1) | (exact isBits_e hI.2.2.2.2.2 (fun g => outX_n (fun q => by have := ((BS_cr hq.2 x5).mpr q).2; omega))) | (exact isBits_e hI.2.2.2.2.2.1 (fun g => (outX_y (by omega) hI.2.2.2.2.2.2.1).trans (by rw [show s.2 6 1 = x6 by omega]))) | (exact hI.2.2.2.2.2.1) | (exact hI.2.2.2.2.2.2.1) | (exact hI.2.2.2.2.2.2.2.2) | (exact hI.2.2.2.2.2.2.2.2.1) | (exact isBits_e hI.2.2.2.2.2.1 (fun g => or_congr Iff.rfl (outZ_n (by rw [show (s.2 6 1).toNat = x8.toNat by omega, ← hI.2.2.2.2.2.2.2.2.2.2]; omega)))) | (rw [hI.2.2.2.2.2.2.2.2.1 x6 (by omega) (by omega)]; exact isBits_s hI.2.2.2.2.2.1 hdk.1 (by have := tOK_B ht; omega) (fun g => (or_congr Iff.rfl (outZ_y (by omega) (by rw [show (s.2 6 1).toNat = x8.toNat by omega, ← hI.2.2.2.2.2.2.2.2.2.2]; omega))).trans or_assoc.symm)) | (rw [hI.2.2.2.2.2.2.2.2.2.2]; exact skp_skip (by omega) (by omega)) | (rw [hI.2.2.2.2.2.2.2.2.2.2, hI.2.2.2.2.2.2.2.2.1 x8 (by omega) (by omega)]; exact skp_step ht hd (by omega) (by omega) (by assumption)) | (exact isBits_0 (fun f _ _ => outX_0)) | grind [upI])
theorem allX3_out (b : AH) (s : MS) (a1 : Int) (a2 : Int) (a3 : Int) (hp : tOK (s.2 6) ∧ aOK (s.2 6) (s.2 7) ∧ lOK ((s.2 5) 0) (s.2 6)) : ∀ m1 m2 m3 : Nat, (∀ (x3 : Int) (x4 : Int) (x5 : Int) (f11 : Int → Int) (f12 : Int → Int) (f13 : Int → Int) (f14 : Int → Int) (f15 : Int → Int) (f16 : Int → Int) (f17 : Int → Int) (f18 : Int → Int) (f19 : Int → Int) (k0 : Int) (k25 : Int) (k33 : Int) (k34 : Int), m1 = ((s.2 6 2 - x5).toNat) → m2 = 0 → m3 = 0 → (k0 = 0 ∧ NXO (s.2 6) (s.2 7) f13 ∧ BS f18 (s.2 6 2) (crS (s.2 6) (s.2 7) (s.2 9) a1 a2.toNat) ∧ ((0 < s.2 5 0 ∧ (0 ≤ a1 ∧ a1 ≤ 3) ∧ 0 ≤ a2 ∧ a2 ≤ 200) ∧ x3 = a3 ∧ 0 ≤ a3 ∧ a3 ≤ s.2 6 2 / s.2 6 0 - 1) ∧ (0 ≤ x5 ∧ x5 ≤ s.2 6 2) ∧ isBits (outX (s.2 6) (crS (s.2 6) (s.2 7) (s.2 9) a1 a2.toNat) a3 x5) x4) → HX3_out_54 (QX3_out s a1 a2 a3) b s x3 x4 x5 f11 f12 f13 f14 f15 f16 f17 f18 f19 k0 k25 k33 k34) ∧ (∀ (x3 : Int) (x4 : Int) (x5 : Int) (x6 : Int) (f11 : Int → Int) (f12 : Int → Int) (f13 : Int → Int) (f14 : Int → Int) (f15 : Int → Int) (f16 : Int → Int) (f17 : Int → Int) (f18 : Int → Int) (f19 : Int → Int) (k0 : Int) (k25 : Int) (k33 : Int) (k34 : Int), m1 = ((s.2 6 2 - x5).toNat - 1) → m2 = ((s.2 6 1 - x6).toNat + 1) → m3 = 0 → (k0 = 0 ∧ NXO (s.2 6) (s.2 7) f13 ∧ BS f18 (s.2 6 2) (crS (s.2 6) (s.2 7) (s.2 9) a1 a2.toNat) ∧ ((0 < s.2 5 0 ∧ (0 ≤ a1 ∧ a1 ≤ 3) ∧ 0 ≤ a2 ∧ a2 ≤ 200) ∧ x3 = a3 ∧ 0 ≤ a3 ∧ a3 ≤ s.2 6 2 / s.2 6 0 - 1) ∧ (0 ≤ x5 ∧ x5 < s.2 6 2) ∧ isBits (fun f => outX (s.2 6) (crS (s.2 6) (s.2 7) (s.2 9) a1 a2.toNat) a3 x5 f ∨ outZ (s.2 6) a3 x5 x6 f) x4 ∧ (crS (s.2 6) (s.2 7) (s.2 9) a1 a2.toNat) x5 ∧ (0 ≤ x6 ∧ x6 ≤ s.2 6 1) ∧ ∀ i : Int, 0 ≤ i → i < s.2 6 1 → f11 i = dig (s.2 6 0) (s.2 6 1) x5 i) → HX3_out_87 (QX3_out s a1 a2 a3) b s x3 x4 x5 x6 f11 f12 f13 f14 f15 f16 f17 f18 f19 k0 k25 k33 k34) ∧ (∀ (x3 : Int) (x4 : Int) (x5 : Int) (x6 : Int) (x7 : Int) (x8 : Int) (f11 : Int → Int) (f12 : Int → Int) (f13 : Int → Int) (f14 : Int → Int) (f15 : Int → Int) (f16 : Int → Int) (f17 : Int → Int) (f18 : Int → Int) (f19 : Int → Int) (k0 : Int) (k25 : Int) (k33 : Int) (k34 : Int), m1 = ((s.2 6 2 - x5).toNat - 1) → m2 = ((s.2 6 1 - x6).toNat) → m3 = ((s.2 6 1 - x8).toNat + 1) → (k0 = 0 ∧ NXO (s.2 6) (s.2 7) f13 ∧ BS f18 (s.2 6 2) (crS (s.2 6) (s.2 7) (s.2 9) a1 a2.toNat) ∧ ((0 < s.2 5 0 ∧ (0 ≤ a1 ∧ a1 ≤ 3) ∧ 0 ≤ a2 ∧ a2 ≤ 200) ∧ x3 = a3 ∧ 0 ≤ a3 ∧ a3 ≤ s.2 6 2 / s.2 6 0 - 1) ∧ (0 ≤ x5 ∧ x5 < s.2 6 2) ∧ isBits (fun f => outX (s.2 6) (crS (s.2 6) (s.2 7) (s.2 9) a1 a2.toNat) a3 x5 f ∨ outZ (s.2 6) a3 x5 x6 f) x4 ∧ (crS (s.2 6) (s.2 7) (s.2 9) a1 a2.toNat) x5 ∧ (0 ≤ x6 ∧ x6 < s.2 6 1) ∧ (∀ i : Int, 0 ≤ i → i < s.2 6 1 → f11 i = dig (s.2 6 0) (s.2 6 1) x5 i) ∧ (0 ≤ x8 ∧ x8 ≤ s.2 6 1) ∧ x7 = skp (s.2 6 0) x6 (dig (s.2 6 0) (s.2 6 1) x5) x8.toNat) → HX3_out_104 (QX3_out s a1 a2 a3) b s x3 x4 x5 x6 x7 x8 f11 f12 f13 f14 f15 f16 f17 f18 f19 k0 k25 k33 k34) := by
  refine lex3_ind ?_
  intro m1 m2 m3 ih
  refine ⟨?_, ?_, ?_⟩
  · rintro x3 x4 x5 f11 f12 f13 f14 f15 f16 f17 f18 f19 k0 k25 k33 k34 rfl rfl rfl hI
    refine bX3_out_54 b s x3 x4 x5 f11 f12 f13 f14 f15 f16 f17 f18 f19 k0 k25 k33 k34 ?_
    refine ⟨fun c_1 => ?_, fun c_1 => ?_⟩
    · exact ⟨f11, f12, f13, f14, f15, f16, f17, f18, f19, k25, k33, k34, (rI_c (vX3_out_2 s a1 a2 a3 hp x3 x4 x5 f11 f12 f13 f14 f15 f16 f17 f18 f19 k0 k25 k33 k34 hI c_1)), (sS_c (sS_c (sS_c (sS_c (sA_c (sA_c (sA_c (sA_c (sA_c (sA_c (sA_c (sA_c (sA_c rfl rfl) rfl) rfl) rfl) rfl) rfl) rfl) rfl) rfl) (vX3_out_1 s a1 a2 a3 hp x3 x4 x5 f11 f12 f13 f14 f15 f16 f17 f18 f19 k0 k25 k33 k34 hI c_1)) rfl) rfl) rfl)⟩
    · have o_2 : (0 ≤ x5 ∧ x5 < 10000) := (vX3_out_3 s a1 a2 a3 hp x3 x4 x5 f11 f12 f13 f14 f15 f16 f17 f18 f19 k0 k25 k33 k34 hI c_1)
      refine ⟨o_2, ?_⟩
      refine ⟨fun c_3 => ?_, fun c_3 => ?_⟩
      · have o_4 : (tOK (s.2 6) ∧ 0 ≤ x5 ∧ x5 ≤ 100000) := (vX3_out_4 s a1 a2 a3 hp x3 x4 x5 f11 f12 f13 f14 f15 f16 f17 f18 f19 k0 k25 k33 k34 hI c_1 o_2 c_3)
        refine ⟨o_4, ?_⟩
        exact (ih _ _ _ (vX3_out_6 s a1 a2 a3 hp x3 x4 x5 f11 f12 f13 f14 f15 f16 f17 f18 f19 k0 k25 k33 k34 hI c_1 o_2 c_3 o_4)).2.1 x3 x4 x5 0 (figs ((s.2 6) 0) ((s.2 6) 1) x5 f11) f12 f13 f14 f15 f16 f17 f18 f19 k0 k25 k33 k34 rfl rfl rfl (vX3_out_5 s a1 a2 a3 hp x3 x4 x5 f11 f12 f13 f14 f15 f16 f17 f18 f19 k0 k25 k33 k34 hI c_1 o_2 c_3 o_4)
      · exact (ih _ _ _ (vX3_out_8 s a1 a2 a3 hp x3 x4 x5 f11 f12 f13 f14 f15 f16 f17 f18 f19 k0 k25 k33 k34 hI c_1 o_2 c_3)).1 x3 x4 (i32 (x5 + 1)) f11 f12 f13 f14 f15 f16 f17 f18 f19 k0 k25 k33 k34 rfl rfl rfl (vX3_out_7 s a1 a2 a3 hp x3 x4 x5 f11 f12 f13 f14 f15 f16 f17 f18 f19 k0 k25 k33 k34 hI c_1 o_2 c_3)
  · rintro x3 x4 x5 x6 f11 f12 f13 f14 f15 f16 f17 f18 f19 k0 k25 k33 k34 rfl rfl rfl hI
    refine bX3_out_87 b s x3 x4 x5 x6 f11 f12 f13 f14 f15 f16 f17 f18 f19 k0 k25 k33 k34 ?_
    refine ⟨fun c_1 => ?_, fun c_1 => ?_⟩
    · exact (ih _ _ _ (vX3_out_10 s a1 a2 a3 hp x3 x4 x5 x6 f11 f12 f13 f14 f15 f16 f17 f18 f19 k0 k25 k33 k34 hI c_1)).1 x3 x4 (i32 (x5 + 1)) f11 f12 f13 f14 f15 f16 f17 f18 f19 k0 k25 k33 k34 rfl rfl rfl (vX3_out_9 s a1 a2 a3 hp x3 x4 x5 x6 f11 f12 f13 f14 f15 f16 f17 f18 f19 k0 k25 k33 k34 hI c_1)
    · exact (ih _ _ _ (vX3_out_12 s a1 a2 a3 hp x3 x4 x5 x6 f11 f12 f13 f14 f15 f16 f17 f18 f19 k0 k25 k33 k34 hI c_1)).2.2 x3 x4 x5 x6 0 0 f11 f12 f13 f14 f15 f16 f17 f18 f19 k0 k25 k33 k34 rfl rfl rfl (vX3_out_11 s a1 a2 a3 hp x3 x4 x5 x6 f11 f12 f13 f14 f15 f16 f17 f18 f19 k0 k25 k33 k34 hI c_1)
  · rintro x3 x4 x5 x6 x7 x8 f11 f12 f13 f14 f15 f16 f17 f18 f19 k0 k25 k33 k34 rfl rfl rfl hI
    refine bX3_out_104 b s x3 x4 x5 x6 x7 x8 f11 f12 f13 f14 f15 f16 f17 f18 f19 k0 k25 k33 k34 ?_
    refine ⟨fun c_1 => ?_, fun c_1 => ?_⟩
    · refine ⟨fun c_2 => ?_, fun c_2 => ?_⟩
      · exact (ih _ _ _ (vX3_out_14 s a1 a2 a3 hp x3 x4 x5 x6 x7 x8 f11 f12 f13 f14 f15 f16 f17 f18 f19 k0 k25 k33 k34 hI c_1 c_2)).2.1 x3 x4 x5 (i32 (x6 + 1)) f11 f12 f13 f14 f15 f16 f17 f18 f19 k0 k25 k33 k34 rfl rfl rfl (vX3_out_13 s a1 a2 a3 hp x3 x4 x5 x6 x7 x8 f11 f12 f13 f14 f15 f16 f17 f18 f19 k0 k25 k33 k34 hI c_1 c_2)
      · have o_3 : (0 ≤ x6 ∧ x6 < 8) := (vX3_out_15 s a1 a2 a3 hp x3 x4 x5 x6 x7 x8 f11 f12 f13 f14 f15 f16 f17 f18 f19 k0 k25 k33 k34 hI c_1 c_2)
        refine ⟨o_3, ?_⟩
        exact (ih _ _ _ (vX3_out_17 s a1 a2 a3 hp x3 x4 x5 x6 x7 x8 f11 f12 f13 f14 f15 f16 f17 f18 f19 k0 k25 k33 k34 hI c_1 c_2 o_3)).2.1 x3 (jor x4 (jshl 1 (f11 x6))) x5 (i32 (x6 + 1)) f11 f12 f13 f14 f15 f16 f17 f18 f19 k0 k25 k33 k34 rfl rfl rfl (vX3_out_16 s a1 a2 a3 hp x3 x4 x5 x6 x7 x8 f11 f12 f13 f14 f15 f16 f17 f18 f19 k0 k25 k33 k34 hI c_1 c_2 o_3)
    · refine ⟨fun c_4 => ?_, fun c_4 => ?_⟩
      · exact (ih _ _ _ (vX3_out_19 s a1 a2 a3 hp x3 x4 x5 x6 x7 x8 f11 f12 f13 f14 f15 f16 f17 f18 f19 k0 k25 k33 k34 hI c_1 c_4)).2.2 x3 x4 x5 x6 x7 (i32 (x8 + 1)) f11 f12 f13 f14 f15 f16 f17 f18 f19 k0 k25 k33 k34 rfl rfl rfl (vX3_out_18 s a1 a2 a3 hp x3 x4 x5 x6 x7 x8 f11 f12 f13 f14 f15 f16 f17 f18 f19 k0 k25 k33 k34 hI c_1 c_4)
      · have o_5 : (0 ≤ x8 ∧ x8 < 8) := (vX3_out_20 s a1 a2 a3 hp x3 x4 x5 x6 x7 x8 f11 f12 f13 f14 f15 f16 f17 f18 f19 k0 k25 k33 k34 hI c_1 c_4)
        refine ⟨o_5, ?_⟩
        exact (ih _ _ _ (vX3_out_22 s a1 a2 a3 hp x3 x4 x5 x6 x7 x8 f11 f12 f13 f14 f15 f16 f17 f18 f19 k0 k25 k33 k34 hI c_1 c_4 o_5)).2.2 x3 x4 x5 x6 (i32 ((i32 (x7 * (s.2 6 0))) + (f11 x8))) (i32 (x8 + 1)) f11 f12 f13 f14 f15 f16 f17 f18 f19 k0 k25 k33 k34 rfl rfl rfl (vX3_out_21 s a1 a2 a3 hp x3 x4 x5 x6 x7 x8 f11 f12 f13 f14 f15 f16 f17 f18 f19 k0 k25 k33 k34 hI c_1 c_4 o_5)
theorem ctX3_out (b : AH) (s : MS) (a1 : Int) (a2 : Int) (a3 : Int) (hp : tOK (s.2 6) ∧ aOK (s.2 6) (s.2 7) ∧ lOK ((s.2 5) 0) (s.2 6)) : MC mX3_out 9 b s [vI a1, vI a2, vI a3] (QX3_out s a1 a2 a3) := by
  refine MC.of (by decide) rfl (Nat.le_of_ble_eq_true rfl) (JW.steq (s2 := sS (sS (sS (sS (sA (sA (sA (sA (sA (sA (sA (sA (sA s 11 (s.2 11)) 12 (s.2 12)) 13 (s.2 13)) 14 (s.2 14)) 15 (s.2 15)) 16 (s.2 16)) 17 (s.2 17)) 18 (s.2 18)) 19 (s.2 19)) 0 (s.1 0)) 25 (s.1 25)) 33 (s.1 33)) 34 (s.1 34)) (by simp only [sA_id, sS_id]) ?_)
  refine bX3_out_0 b s a1 a2 a3 (s.2 11) (s.2 12) (s.2 13) (s.2 14) (s.2 15) (s.2 16) (s.2 17) (s.2 18) (s.2 19) (s.1 0) (s.1 25) (s.1 33) (s.1 34) ?_
  refine ⟨fun c_2 => ?_, fun c_2 => ?_⟩
  · exact ⟨(s.2 11), (s.2 12), (s.2 13), (s.2 14), (s.2 15), (s.2 16), (s.2 17), (s.2 18), (s.2 19), (s.1 25), (s.1 33), (s.1 34), (rI_c (vX3_out_23 s a1 a2 a3 hp c_2)), rfl⟩
  · have o_3 : (s.2 6 0) ≠ 0 := (vX3_out_24 s a1 a2 a3 hp c_2)
    refine ⟨o_3, ?_⟩
    refine ⟨fun c_5 => ?_, fun c_5 => ?_⟩
    · have o_6 : (tOK (s.2 6) ∧ aOK (s.2 6) (s.2 7) ∧ (0 ≤ a1 ∧ a1 ≤ 3) ∧ 0 ≤ a2 ∧ a2 ≤ 200) := (vX3_out_25 s a1 a2 a3 hp c_2 o_3 c_5)
      refine ⟨o_6, ?_⟩
      intro f_7 f_8 f_9 f_10 f_11 k_12 q_13
      exact (allX3_out b s a1 a2 a3 hp _ _ _).1 a3 0 0 f_7 f_8 f_9 (s.2 14) (s.2 15) (s.2 16) (s.2 17) f_10 f_11 0 k_12 (s.1 33) (s.1 34) rfl rfl rfl (vX3_out_26 s a1 a2 a3 hp c_2 o_3 c_5 o_6 f_7 f_8 f_9 f_10 f_11 k_12 q_13)
    · exact ⟨(s.2 11), (s.2 12), (s.2 13), (s.2 14), (s.2 15), (s.2 16), (s.2 17), (s.2 18), (s.2 19), (s.1 25), (s.1 33), (s.1 34), (rI_c (vX3_out_27 s a1 a2 a3 hp c_2 o_3 c_5)), rfl⟩
