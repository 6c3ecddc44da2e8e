/-! contracts of the reference: join kinds kind odd -/
set_option maxRecDepth 100000
def HX3_join_0 (Q : Option AV → MS → Prop) (b : AH) (s : MS) (x1 : Int) (x2 : Int) (x3 : Int) (f11 : Int → Int) (f12 : Int → Int) (f13 : Int → Int) (f14 : Int → Int) (f15 : Int → Int) (f16 : Int → Int) (f17 : Int → Int) (f18 : Int → Int) (f19 : Int → Int) (k0 : Int) (k25 : Int) (k33 : Int) (k34 : Int) : Prop := MW mX3_join 8 Q b 0 [(0, vR 351), (1, vI x1), (2, vI x2), (3, vI x3)] [] (sS (sS (sS (sS (sA (sA (sA (sA (sA (sA (sA (sA (sA s 11 f11) 12 f12) 13 f13) 14 f14) 15 f15) 16 f16) 17 f17) 18 f18) 19 f19) 0 k0) 25 k25) 33 k33) 34 k34)
def HX3_join_45 (Q : Option AV → MS → Prop) (b : AH) (s : MS) (x1 : Int) (x2 : Int) (x3 : Int) (x4 : Int) (f11 : Int → Int) (f12 : Int → Int) (f13 : Int → Int) (f14 : Int → Int) (f15 : Int → Int) (f16 : Int → Int) (f17 : Int → Int) (f18 : Int → Int) (f19 : Int → Int) (k0 : Int) (k25 : Int) (k33 : Int) (k34 : Int) : Prop := MW mX3_join 8 Q b 45 [(0, vR 351), (1, vI x1), (2, vI x2), (3, vI x3), (4, vI x4)] [] (sS (sS (sS (sS (sA (sA (sA (sA (sA (sA (sA (sA (sA s 11 f11) 12 f12) 13 f13) 14 f14) 15 f15) 16 f16) 17 f17) 18 f18) 19 f19) 0 k0) 25 k25) 33 k33) 34 k34)
def HX3_join_76 (Q : Option AV → MS → Prop) (b : AH) (s : MS) (x1 : Int) (x3 : Int) (x4 : Int) (x5 : Int) (f11 : Int → Int) (f12 : Int → Int) (f13 : Int → Int) (f14 : Int → Int) (f15 : Int → Int) (f16 : Int → Int) (f17 : Int → Int) (f18 : Int → Int) (f19 : Int → Int) (k0 : Int) (k25 : Int) (k33 : Int) (k34 : Int) : Prop := MW mX3_join 8 Q b 76 [(0, vR 351), (1, vI x1), (3, vI x3), (4, vI x4), (5, vI x5)] [] (sS (sS (sS (sS (sA (sA (sA (sA (sA (sA (sA (sA (sA s 11 f11) 12 f12) 13 f13) 14 f14) 15 f15) 16 f16) 17 f17) 18 f18) 19 f19) 0 k0) 25 k25) 33 k33) 34 k34)
def HX3_join_117 (Q : Option AV → MS → Prop) (b : AH) (s : MS) (x3 : Int) (x5 : Int) (x6 : Int) (f11 : Int → Int) (f12 : Int → Int) (f13 : Int → Int) (f14 : Int → Int) (f15 : Int → Int) (f16 : Int → Int) (f17 : Int → Int) (f18 : Int → Int) (f19 : Int → Int) (k0 : Int) (k25 : Int) (k33 : Int) (k34 : Int) : Prop := MW mX3_join 8 Q b 117 [(0, vR 351), (3, vI x3), (5, vI x5), (6, vI x6)] [] (sS (sS (sS (sS (sA (sA (sA (sA (sA (sA (sA (sA (sA s 11 f11) 12 f12) 13 f13) 14 f14) 15 f15) 16 f16) 17 f17) 18 f18) 19 f19) 0 k0) 25 k25) 33 k33) 34 k34)
theorem bX3_join_0 {Q : Option AV → MS → Prop} (b : AH) (s : MS) (x1 : Int) (x2 : Int) (x3 : Int) (f11 : Int → Int) (f12 : Int → Int) (f13 : Int → Int) (f14 : Int → Int) (f15 : Int → Int) (f16 : Int → Int) (f17 : Int → Int) (f18 : Int → Int) (f19 : Int → Int) (k0 : Int) (k25 : Int) (k33 : Int) (k34 : Int) (K : (tOK (s.2 6)) ∧ (((bI (0 ≤ x1 ∧ x1 < (s.2 6) 2)) = 0 → Q (some (vI (-2))) (sS (sS (sS (sS (sA (sA (sA (sA (sA (sA (sA (sA (sA s 11 f11) 12 f12) 13 f13) 14 f14) 15 f15) 16 f16) 17 f17) 18 f18) 19 f19) 0 0) 25 k25) 33 k33) 34 k34)) ∧ (¬ (bI (0 ≤ x1 ∧ x1 < (s.2 6) 2)) = 0 → ((bI (0 ≤ x2 ∧ x2 < (s.2 6) 2)) = 0 → Q (some (vI (-2))) (sS (sS (sS (sS (sA (sA (sA (sA (sA (sA (sA (sA (sA s 11 f11) 12 f12) 13 f13) 14 f14) 15 f15) 16 f16) 17 f17) 18 f18) 19 f19) 0 0) 25 k25) 33 k33) 34 k34)) ∧ (¬ (bI (0 ≤ x2 ∧ x2 < (s.2 6) 2)) = 0 → (¬ (bI ((0 : Int) ≤ x3 ∧ x3 ≤ (2 : Int))) = 0 → (tOK (s.2 6) ∧ aOK (s.2 6) (s.2 7)) ∧ ((∀ (f_9 : Int → Int) (f_10 : Int → Int) (f_11 : Int → Int) (k_12 : Int), (NXO (s.2 6) (s.2 7) f_11) → HX3_join_45 Q b s x1 x2 x3 0 f_9 f_10 f_11 f14 f15 f16 f17 f18 f19 0 k_12 k33 k34))) ∧ ((bI ((0 : Int) ≤ x3 ∧ x3 ≤ (2 : Int))) = 0 → Q (some (vI (-2))) (sS (sS (sS (sS (sA (sA (sA (sA (sA (sA (sA (sA (sA s 11 f11) 12 f12) 13 f13) 14 f14) 15 f15) 16 f16) 17 f17) 18 f18) 19 f19) 0 0) 25 k25) 33 k33) 34 k34)))))) : HX3_join_0 Q b s x1 x2 x3 f11 f12 f13 f14 f15 f16 f17 f18 f19 k0 k25 k33 k34 := by
  refine JW.aload_n dX3_join_0 rfl ?_
  refine JW.iconst dX3_join_1 rfl ?_
  refine JW.mputI dX3_join_2 (pX3_77 _) rfl ?_
  refine JW.steq (s2 := sS (sS (sS (sS (sA (sA (sA (sA (sA (sA (sA (sA (sA s 11 f11) 12 f12) 13 f13) 14 f14) 15 f15) 16 f16) 17 f17) 18 f18) 19 f19) 0 0) 25 k25) 33 k33) 34 k34) (by simp only [sA_A, sS_S, sA_S, sA_lt, sS_lt, Nat.reduceLT, id_eq] <;> rfl) ?_
  refine JW.aload_n dX3_join_5 rfl ?_
  refine JW.iload_n dX3_join_6 rfl ?_
  refine JW.i2l dX3_join_7 ?_
  obtain ⟨o_1, K⟩ := K
  refine JW.mcall (As := [vL x1]) dX3_join_8 vX3_isNumber rfl q1806 (ctX3_isNumber b (sS (sS (sS (sS (sA (sA (sA (sA (sA (sA (sA (sA (sA s 11 f11) 12 f12) 13 f13) 14 f14) 15 f15) 16 f16) 17 f17) 18 f18) 19 f19) 0 0) 25 k25) 33 k33) 34 k34) x1 o_1) (Nat.le_of_ble_eq_true rfl) rfl (Nat.le_of_ble_eq_true rfl) ?_
  rintro _ _ ⟨rfl, eq_2⟩
  refine JW.steq (s2 := sS (sS (sS (sS (sA (sA (sA (sA (sA (sA (sA (sA (sA s 11 f11) 12 f12) 13 f13) 14 f14) 15 f15) 16 f16) 17 f17) 18 f18) 19 f19) 0 0) 25 k25) 33 k33) 34 k34) eq_2 ?_
  refine JW.if_eq (tgt := 35) dX3_join_11 rfl (fun c_3 => ?_) (fun c_3 => ?_)
  · have K := K.1 c_3
    refine JW.bipush dX3_join_35 rfl ?_
    exact JW.ireturn dX3_join_37 rfl rfl ⟨_, rfl, K⟩
  · have K := K.2 c_3
    refine JW.aload_n dX3_join_14 rfl ?_
    refine JW.iload_n dX3_join_15 rfl ?_
    refine JW.i2l dX3_join_16 ?_
    refine JW.mcall (As := [vL x2]) dX3_join_17 vX3_isNumber rfl q1806 (ctX3_isNumber b (sS (sS (sS (sS (sA (sA (sA (sA (sA (sA (sA (sA (sA s 11 f11) 12 f12) 13 f13) 14 f14) 15 f15) 16 f16) 17 f17) 18 f18) 19 f19) 0 0) 25 k25) 33 k33) 34 k34) x2 o_1) (Nat.le_of_ble_eq_true rfl) rfl (Nat.le_of_ble_eq_true rfl) ?_
    rintro _ _ ⟨rfl, eq_4⟩
    refine JW.steq (s2 := sS (sS (sS (sS (sA (sA (sA (sA (sA (sA (sA (sA (sA s 11 f11) 12 f12) 13 f13) 14 f14) 15 f15) 16 f16) 17 f17) 18 f18) 19 f19) 0 0) 25 k25) 33 k33) 34 k34) eq_4 ?_
    refine JW.if_eq (tgt := 35) dX3_join_20 rfl (fun c_5 => ?_) (fun c_5 => ?_)
    · have K := K.1 c_5
      refine JW.bipush dX3_join_35 rfl ?_
      exact JW.ireturn dX3_join_37 rfl rfl ⟨_, rfl, K⟩
    · have K := K.2 c_5
      refine JW.iload_n dX3_join_23 rfl ?_
      refine JW.i2l dX3_join_24 ?_
      refine JW.lconst (x := 0) dX3_join_25 rfl ?_
      refine JW.ldc2 (x := 2) dX3_join_26 q1923 rfl ?_
      refine JW.mcallS (As := [vL x3, vL 0, vL 2]) dX3_join_29 vX3_in q1632 (ctX3_in b (sS (sS (sS (sS (sA (sA (sA (sA (sA (sA (sA (sA (sA s 11 f11) 12 f12) 13 f13) 14 f14) 15 f15) 16 f16) 17 f17) 18 f18) 19 f19) 0 0) 25 k25) 33 k33) 34 k34) x3 0 2) (Nat.le_of_ble_eq_true rfl) rfl (Nat.le_of_ble_eq_true rfl) ?_
      rintro _ _ ⟨rfl, eq_6⟩
      refine JW.steq (s2 := sS (sS (sS (sS (sA (sA (sA (sA (sA (sA (sA (sA (sA s 11 f11) 12 f12) 13 f13) 14 f14) 15 f15) 16 f16) 17 f17) 18 f18) 19 f19) 0 0) 25 k25) 33 k33) 34 k34) eq_6 ?_
      refine JW.if_ne (tgt := 38) dX3_join_32 rfl (fun c_7 => ?_) (fun c_7 => ?_)
      · have K := K.1 c_7
        refine JW.aload_n dX3_join_38 rfl ?_
        obtain ⟨o_8, K⟩ := K
        refine JW.mcall (As := []) dX3_join_39 vX3_lays rfl q1867 (ctX3_lays b (sS (sS (sS (sS (sA (sA (sA (sA (sA (sA (sA (sA (sA s 11 f11) 12 f12) 13 f13) 14 f14) 15 f15) 16 f16) 17 f17) 18 f18) 19 f19) 0 0) 25 k25) 33 k33) 34 k34) o_8) (Nat.le_of_ble_eq_true rfl) rfl (Nat.le_of_ble_eq_true rfl) ?_
        rintro _ _ ⟨f_9, f_10, f_11, k_12, rfl, rfl, q_13⟩
        refine JW.steq (s2 := sS (sS (sS (sS (sA (sA (sA (sA (sA (sA (sA (sA (sA s 11 f_9) 12 f_10) 13 f_11) 14 f14) 15 f15) 16 f16) 17 f17) 18 f18) 19 f19) 0 0) 25 k_12) 33 k33) 34 k34) (by simp only [sA_A, sS_S, sA_S, sA_lt, sS_lt, Nat.reduceLT, id_eq] <;> rfl) ?_
        replace K := K f_9 f_10 f_11 k_12 q_13
        refine JW.iconst dX3_join_42 rfl ?_
        refine JW.istore (ls' := [(0, vR 351), (1, vI x1), (2, vI x2), (3, vI x3), (4, vI 0)]) dX3_join_43 (Nat.le_of_ble_eq_true rfl) rfl ?_
        exact JW.pick [0, 1, 2, 3, 4] rfl K
      · have K := K.2 c_7
        refine JW.bipush dX3_join_35 rfl ?_
        exact JW.ireturn dX3_join_37 rfl rfl ⟨_, rfl, K⟩
theorem bX3_join_45 {Q : Option AV → MS → Prop} (b : AH) (s : MS) (x1 : Int) (x2 : Int) (x3 : Int) (x4 : Int) (f11 : Int → Int) (f12 : Int → Int) (f13 : Int → Int) (f14 : Int → Int) (f15 : Int → Int) (f16 : Int → Int) (f17 : Int → Int) (f18 : Int → Int) (f19 : Int → Int) (k0 : Int) (k25 : Int) (k33 : Int) (k34 : Int) (K : ((s.2 6 2) ≤ x4 → HX3_join_76 Q b s x1 x3 x2 0 f11 f12 f13 f14 f15 f16 f17 f18 f19 k0 k25 k33 k34) ∧ (¬ (s.2 6 2) ≤ x4 → (0 ≤ x4 ∧ x4 < 10000) ∧ (HX3_join_45 Q b s x1 x2 x3 (i32 (x4 + 1)) f11 f12 f13 f14 f15 f16 (upI f17 x4 (-1)) f18 f19 k0 k25 k33 k34))) : HX3_join_45 Q b s x1 x2 x3 x4 f11 f12 f13 f14 f15 f16 f17 f18 f19 k0 k25 k33 k34 := by
  refine JW.iload dX3_join_45 rfl ?_
  refine JW.aload_n dX3_join_47 rfl ?_
  refine JW.mget (v := vR 358) dX3_join_48 fX3_34 rfl ?_
  refine JW.iconst dX3_join_51 rfl ?_
  refine JW.mald 6 (x := (s.2 6 2)) dX3_join_52 (Nat.le_of_ble_eq_true rfl) rfl (by decide) (by decide) rfl ?_
  refine JW.icmp_ge (tgt := 70) dX3_join_53 rfl (fun c_1 => ?_) (fun c_1 => ?_)
  · have K := K.1 c_1
    refine JW.iload_n dX3_join_70 rfl ?_
    refine JW.istore (ls' := [(0, vR 351), (1, vI x1), (2, vI x2), (3, vI x3), (4, vI x2)]) dX3_join_71 (Nat.le_of_ble_eq_true rfl) rfl ?_
    refine JW.iconst dX3_join_73 rfl ?_
    refine JW.istore (ls' := [(0, vR 351), (1, vI x1), (2, vI x2), (3, vI x3), (4, vI x2), (5, vI 0)]) dX3_join_74 (Nat.le_of_ble_eq_true rfl) rfl ?_
    exact JW.pick [0, 1, 3, 4, 5] rfl K
  · have K := K.2 c_1
    refine JW.aload_n dX3_join_56 rfl ?_
    refine JW.mget (v := vR 369) dX3_join_57 fX3_68 rfl ?_
    refine JW.iload dX3_join_60 rfl ?_
    refine JW.iconst dX3_join_62 rfl ?_
    obtain ⟨o_2, K⟩ := K
    refine JW.mast 17 (f := f17) dX3_join_63 (Nat.le_of_ble_eq_true rfl) rfl o_2.1 o_2.2 rfl ?_
    refine JW.steq (s2 := sS (sS (sS (sS (sA (sA (sA (sA (sA (sA (sA (sA (sA s 11 f11) 12 f12) 13 f13) 14 f14) 15 f15) 16 f16) 17 (upI f17 x4 (-1))) 18 f18) 19 f19) 0 k0) 25 k25) 33 k33) 34 k34) (by simp only [sA_A, sS_S, sA_S, sA_lt, sS_lt, Nat.reduceLT, id_eq] <;> rfl) ?_
    refine JW.iinc (ls' := [(0, vR 351), (1, vI x1), (2, vI x2), (3, vI x3), (4, vI (i32 (x4 + 1)))]) dX3_join_64 (Nat.le_of_ble_eq_true rfl) rfl rfl ?_
    refine JW.goto (tgt := 45) dX3_join_67 rfl ?_
    exact JW.pick [0, 1, 2, 3, 4] rfl K
theorem bX3_join_76 {Q : Option AV → MS → Prop} (b : AH) (s : MS) (x1 : Int) (x3 : Int) (x4 : Int) (x5 : Int) (f11 : Int → Int) (f12 : Int → Int) (f13 : Int → Int) (f14 : Int → Int) (f15 : Int → Int) (f16 : Int → Int) (f17 : Int → Int) (f18 : Int → Int) (f19 : Int → Int) (k0 : Int) (k25 : Int) (k33 : Int) (k34 : Int) (K : (0 ≤ x4 ∧ x4 < 10000) ∧ ((¬ (f17 x4) = (-1) → HX3_join_117 Q b s x3 x1 0 f11 f12 f13 f14 f15 f16 f17 f18 f19 k0 k25 k33 k34) ∧ ((f17 x4) = (-1) → HX3_join_76 Q b s x1 x3 (f13 x4) (i32 (x5 + 1)) f11 f12 f13 f14 f15 f16 (upI f17 x4 x5) f18 f19 k0 k25 k33 k34))) : HX3_join_76 Q b s x1 x3 x4 x5 f11 f12 f13 f14 f15 f16 f17 f18 f19 k0 k25 k33 k34 := by
  refine JW.aload_n dX3_join_76 rfl ?_
  refine JW.mget (v := vR 369) dX3_join_77 fX3_68 rfl ?_
  refine JW.iload dX3_join_80 rfl ?_
  obtain ⟨o_1, K⟩ := K
  refine JW.mald 17 (x := (f17 x4)) dX3_join_82 (Nat.le_of_ble_eq_true rfl) rfl o_1.1 o_1.2 rfl ?_
  refine JW.iconst dX3_join_83 rfl ?_
  refine JW.icmp_ne (tgt := 111) dX3_join_84 rfl (fun c_2 => ?_) (fun c_2 => ?_)
  · have K := K.1 c_2
    refine JW.iload_n dX3_join_111 rfl ?_
    refine JW.istore (ls' := [(0, vR 351), (1, vI x1), (3, vI x3), (4, vI x4), (5, vI x1)]) dX3_join_112 (Nat.le_of_ble_eq_true rfl) rfl ?_
    refine JW.iconst dX3_join_114 rfl ?_
    refine JW.istore (ls' := [(0, vR 351), (1, vI x1), (3, vI x3), (4, vI x4), (5, vI x1), (6, vI 0)]) dX3_join_115 (Nat.le_of_ble_eq_true rfl) rfl ?_
    exact JW.pick [0, 3, 5, 6] rfl K
  · have K := K.2 c_2
    refine JW.aload_n dX3_join_87 rfl ?_
    refine JW.mget (v := vR 369) dX3_join_88 fX3_68 rfl ?_
    refine JW.iload dX3_join_91 rfl ?_
    refine JW.iload dX3_join_93 rfl ?_
    refine JW.mast 17 (f := f17) dX3_join_95 (Nat.le_of_ble_eq_true rfl) rfl o_1.1 o_1.2 rfl ?_
    refine JW.steq (s2 := sS (sS (sS (sS (sA (sA (sA (sA (sA (sA (sA (sA (sA s 11 f11) 12 f12) 13 f13) 14 f14) 15 f15) 16 f16) 17 (upI f17 x4 x5)) 18 f18) 19 f19) 0 k0) 25 k25) 33 k33) 34 k34) (by simp only [sA_A, sS_S, sA_S, sA_lt, sS_lt, Nat.reduceLT, id_eq] <;> rfl) ?_
    refine JW.aload_n dX3_join_96 rfl ?_
    refine JW.mget (v := vR 365) dX3_join_97 fX3_56 rfl ?_
    refine JW.iload dX3_join_100 rfl ?_
    refine JW.mald 13 (x := (f13 x4)) dX3_join_102 (Nat.le_of_ble_eq_true rfl) rfl o_1.1 o_1.2 rfl ?_
    refine JW.istore (ls' := [(0, vR 351), (1, vI x1), (3, vI x3), (4, vI (f13 x4)), (5, vI x5)]) dX3_join_103 (Nat.le_of_ble_eq_true rfl) rfl ?_
    refine JW.iinc (ls' := [(0, vR 351), (1, vI x1), (3, vI x3), (4, vI (f13 x4)), (5, vI (i32 (x5 + 1)))]) dX3_join_105 (Nat.le_of_ble_eq_true rfl) rfl rfl ?_
    refine JW.goto (tgt := 76) dX3_join_108 rfl ?_
    exact JW.pick [0, 1, 3, 4, 5] rfl K
theorem bX3_join_117 {Q : Option AV → MS → Prop} (b : AH) (s : MS) (x3 : Int) (x5 : Int) (x6 : Int) (f11 : Int → Int) (f12 : Int → Int) (f13 : Int → Int) (f14 : Int → Int) (f15 : Int → Int) (f16 : Int → Int) (f17 : Int → Int) (f18 : Int → Int) (f19 : Int → Int) (k0 : Int) (k25 : Int) (k33 : Int) (k34 : Int) (K : ((s.2 6 2) < x6 → Q (some (vI (-1))) (sS (sS (sS (sS (sA (sA (sA (sA (sA (sA (sA (sA (sA s 11 f11) 12 f12) 13 f13) 14 f14) 15 f15) 16 f16) 17 f17) 18 f18) 19 f19) 0 k0) 25 k25) 33 k33) 34 k34)) ∧ (¬ (s.2 6 2) < x6 → (0 ≤ x5 ∧ x5 < 10000) ∧ (((f17 x5) = (-1) → HX3_join_117 Q b s x3 (f13 x5) (i32 (x6 + 1)) f11 f12 f13 f14 f15 f16 f17 f18 f19 k0 k25 k33 k34) ∧ (¬ (f17 x5) = (-1) → (¬ x3 = 0 → (¬ x3 = 1 → Q (some (vI (f17 x5))) (sS (sS (sS (sS (sA (sA (sA (sA (sA (sA (sA (sA (sA s 11 f11) 12 f12) 13 f13) 14 f14) 15 f15) 16 f16) 17 f17) 18 f18) 19 f19) 0 k0) 25 k25) 33 k33) 34 k34)) ∧ (x3 = 1 → Q (some (vI x6)) (sS (sS (sS (sS (sA (sA (sA (sA (sA (sA (sA (sA (sA s 11 f11) 12 f12) 13 f13) 14 f14) 15 f15) 16 f16) 17 f17) 18 f18) 19 f19) 0 k0) 25 k25) 33 k33) 34 k34))) ∧ (x3 = 0 → Q (some (vI x5)) (sS (sS (sS (sS (sA (sA (sA (sA (sA (sA (sA (sA (sA s 11 f11) 12 f12) 13 f13) 14 f14) 15 f15) 16 f16) 17 f17) 18 f18) 19 f19) 0 k0) 25 k25) 33 k33) 34 k34)))))) : HX3_join_117 Q b s x3 x5 x6 f11 f12 f13 f14 f15 f16 f17 f18 f19 k0 k25 k33 k34 := by
  refine JW.iload dX3_join_117 rfl ?_
  refine JW.aload_n dX3_join_119 rfl ?_
  refine JW.mget (v := vR 358) dX3_join_120 fX3_34 rfl ?_
  refine JW.iconst dX3_join_123 rfl ?_
  refine JW.mald 6 (x := (s.2 6 2)) dX3_join_124 (Nat.le_of_ble_eq_true rfl) rfl (by decide) (by decide) rfl ?_
  refine JW.icmp_gt (tgt := 181) dX3_join_125 rfl (fun c_1 => ?_) (fun c_1 => ?_)
  · have K := K.1 c_1
    refine JW.iconst dX3_join_181 rfl ?_
    exact JW.ireturn dX3_join_182 rfl rfl ⟨_, rfl, K⟩
  · have K := K.2 c_1
    refine JW.aload_n dX3_join_128 rfl ?_
    refine JW.mget (v := vR 369) dX3_join_129 fX3_68 rfl ?_
    refine JW.iload dX3_join_132 rfl ?_
    obtain ⟨o_2, K⟩ := K
    refine JW.mald 17 (x := (f17 x5)) dX3_join_134 (Nat.le_of_ble_eq_true rfl) rfl o_2.1 o_2.2 rfl ?_
    refine JW.iconst dX3_join_135 rfl ?_
    refine JW.icmp_eq (tgt := 166) dX3_join_136 rfl (fun c_3 => ?_) (fun c_3 => ?_)
    · have K := K.1 c_3
      refine JW.aload_n dX3_join_166 rfl ?_
      refine JW.mget (v := vR 365) dX3_join_167 fX3_56 rfl ?_
      refine JW.iload dX3_join_170 rfl ?_
      refine JW.mald 13 (x := (f13 x5)) dX3_join_172 (Nat.le_of_ble_eq_true rfl) rfl o_2.1 o_2.2 rfl ?_
      refine JW.istore (ls' := [(0, vR 351), (3, vI x3), (5, vI (f13 x5)), (6, vI x6)]) dX3_join_173 (Nat.le_of_ble_eq_true rfl) rfl ?_
      refine JW.iinc (ls' := [(0, vR 351), (3, vI x3), (5, vI (f13 x5)), (6, vI (i32 (x6 + 1)))]) dX3_join_175 (Nat.le_of_ble_eq_true rfl) rfl rfl ?_
      refine JW.goto (tgt := 117) dX3_join_178 rfl ?_
      exact JW.pick [0, 3, 5, 6] rfl K
    · have K := K.2 c_3
      refine JW.iload_n dX3_join_139 rfl ?_
      refine JW.if_ne (tgt := 148) dX3_join_140 rfl (fun c_4 => ?_) (fun c_4 => ?_)
      · have K := K.1 c_4
        refine JW.iload_n dX3_join_148 rfl ?_
        refine JW.iconst dX3_join_149 rfl ?_
        refine JW.icmp_ne (tgt := 158) dX3_join_150 rfl (fun c_5 => ?_) (fun c_5 => ?_)
        · have K := K.1 c_5
          refine JW.aload_n dX3_join_158 rfl ?_
          refine JW.mget (v := vR 369) dX3_join_159 fX3_68 rfl ?_
          refine JW.iload dX3_join_162 rfl ?_
          refine JW.mald 17 (x := (f17 x5)) dX3_join_164 (Nat.le_of_ble_eq_true rfl) rfl o_2.1 o_2.2 rfl ?_
          exact JW.ireturn dX3_join_165 rfl rfl ⟨_, rfl, K⟩
        · have K := K.2 c_5
          refine JW.iload dX3_join_153 rfl ?_
          refine JW.goto (tgt := 165) dX3_join_155 rfl ?_
          exact JW.ireturn dX3_join_165 rfl rfl ⟨_, rfl, K⟩
      · have K := K.2 c_4
        refine JW.iload dX3_join_143 rfl ?_
        refine JW.goto (tgt := 165) dX3_join_145 rfl ?_
        exact JW.ireturn dX3_join_165 rfl rfl ⟨_, rfl, K⟩
def QX3_join (s : MS) (a1 : Int) (a2 : Int) (a3 : Int) : Option AV → MS → Prop := fun v s' => ∃ (f11 : Int → Int) (f12 : Int → Int) (f13 : Int → Int) (f14 : Int → Int) (f15 : Int → Int) (f16 : Int → Int) (f17 : Int → Int) (f18 : Int → Int) (f19 : Int → Int) (k25 : Int) (k33 : Int) (k34 : Int), v = some (vI (rJoin (s.2 6) (s.2 7) a1 a2 a3)) ∧ s' = sS (sS (sS (sS (sA (sA (sA (sA (sA (sA (sA (sA (sA s 11 f11) 12 f12) 13 f13) 14 f14) 15 f15) 16 f16) 17 f17) 18 f18) 19 f19) 0 (0)) 25 k25) 33 k33) 34 k34
theorem vX3_join_1 (s : MS) (a1 : Int) (a2 : Int) (a3 : Int) (hp : tOK (s.2 6) ∧ aOK (s.2 6) (s.2 7)) (x1 : Int) (x2 : Int) (x3 : Int) (x4 : Int) (f11 : Int → Int) (f12 : Int → Int) (f13 : Int → Int) (f14 : Int → Int) (f15 : Int → Int) (f16 : Int → Int) (f17 : Int → Int) (f18 : Int → Int) (f19 : Int → Int) (k0 : Int) (k25 : Int) (k33 : Int) (k34 : Int) (hI : k0 = 0 ∧ NXO (s.2 6) (s.2 7) f13 ∧ (x1 = a1 ∧ x2 = a2 ∧ x3 = a3 ∧ 0 ≤ a1 ∧ a1 < s.2 6 2 ∧ 0 ≤ a2 ∧ a2 < s.2 6 2 ∧ 0 ≤ a3 ∧ a3 ≤ 2) ∧ (0 ≤ x4 ∧ x4 ≤ s.2 6 2) ∧ ∀ z : Int, 0 ≤ z → z < x4 → f17 z = -1) (c_1 : (s.2 6 2) ≤ x4) : k0 = 0 ∧ NXO (s.2 6) (s.2 7) f13 ∧ (x1 = a1 ∧ x3 = a3 ∧ 0 ≤ a1 ∧ a1 < s.2 6 2 ∧ 0 ≤ a2 ∧ a2 < s.2 6 2 ∧ 0 ≤ a3 ∧ a3 ≤ 2) ∧ 0 ≤ (0 : Int) ∧ x2 = it (nx (s.2 6) (s.2 7)) a2 (0 : Int).toNat ∧ WM (nx (s.2 6) (s.2 7)) f17 (s.2 6 2) a2 (0 : Int).toNat ∧ (0 : Int) + cnt f17 (-1) (s.2 6 2).toNat = s.2 6 2 := by
  obtain ⟨ht, ha⟩ := hp
  have hN := tOK_N ht
  have hg := nx_rng (s.2 6) (s.2 7)
  (try simp only [bI_0, bI_n, Classical.not_not] at *)
  (try have hq := ‹NXO (s.2 6) (s.2 7) _›)
  (try have hq := hI.2.1)
  (try have h4 := it_b hg (x := a2) (by omega) (by omega) x5.toNat)
  (try have hc := cnt_nn f17 (-1) (s.2 6 2).toNat)
  (try (have h5 := it_b hg (x := a1) (by omega) (by omega) x6.toNat; rw [← hI.2.2.2.2.2.1] at h5; have h6 := hI.2.2.2.2.1 x5 h5.1 h5.2; have h7 := hq x5 h5.1 h5.2))
  (try unfold lex3)
  (try simp only [bI_0, bI_n, Classical.not_not] at *)
  (try simp (disch := omega) only [i32_id] at *)
  first | done | omega | ((repeat' (with_reducible apply And.intro)) <;> first | assumption | rfl | omega | (exact hI.1) | (exact hI.2.1) | (exact hq) | (exact hI.2.2.2.2.1) | (unfold rJoin; rw [if_neg (by omega)]) | (exact hI.2.2.1.2.1) | (exact hI.2.2.1.1) | (intro z h0 h1; omega) | (exact WM_0 (fun w a b => hI.2.2.2.2 w a (by omega))) | (rw [cnt_all _ (fun i a b => hI.2.2.2.2 i a (by omega))]; omega) | (exact upto_s (p := fun z v => v = -1) hI.2.2.2.2 rfl) | (rw [hI.2.2.2.2.1]; omega) | (have e9 := hI.2.2.2.2.1; rw [e9] at c_2; exact WM_e hg (by omega) (by omega) hI.2.2.2.2.2.1 c_2) | (rw [hI.2.2.2.2.1, hq _ h4.1 h4.2, show (x5 + 1).toNat = x5.toNat + 1 by omega]; rfl) | (rw [show (x5 + 1).toNat = x5.toNat + 1 by omega]; have e9 := WM_s hI.2.2.2.2.2.1 (by rw [← hI.2.2.2.2.1]; assumption); rw [← hI.2.2.2.2.1, show ((x5.toNat : Nat) : Int) = x5 by omega] at e9; exact e9) | (have e9 := cnt_upd (g := f17) (i := x4) (x := x5) (v := -1) (n := (s.2 6 2).toNat) (by omega) (by omega); rw [if_pos c_2, if_neg (by omega)] at e9; omega) | (have e9 := cnt_at (g := f17) (i := x4) (s.2 6 2).toNat (by omega) (by omega); rw [c_2] at e9; omega) | (rw [h7, hI.2.2.2.2.2.1, show (x6 + 1).toNat = x6.toNat + 1 by omega]; rfl) | (intro j h0 h1; by_cases e9 : j = x6; (focus (rw [e9, ← hI.2.2.2.2.2.1]; exact h6.2 c_3)); (focus (exact hI.2.2.2.2.2.2 j h0 (by omega)))) | (unfold rJoin; rw [if_pos (by omega), if_pos (join_no (fun j a b => hI.2.2.2.2.2.2 j a (by omega)))]) | (have ej := join_at (N := s.2 6 2) hI.2.2.2.1.1 (by omega) (by rw [← hI.2.2.2.2.2.1]; exact (h6.1 c_3).1) hI.2.2.2.2.2.2; unfold rJoin; rw [if_pos (by omega), ej, if_neg (by omega), ← hI.2.2.2.2.2.1]; first | rw [if_pos (by omega)] | rw [if_neg (by omega), if_pos (by omega)] | (rw [if_neg (by omega), if_neg (by omega)]; exact (h6.1 c_3).2)) | grind [upI])
theorem vX3_join_2 (s : MS) (a1 : Int) (a2 : Int) (a3 : Int) (hp : tOK (s.2 6) ∧ aOK (s.2 6) (s.2 7)) (x1 : Int) (x2 : Int) (x3 : Int) (x4 : Int) (f11 : Int → Int) (f12 : Int → Int) (f13 : Int → Int) (f14 : Int → Int) (f15 : Int → Int) (f16 : Int → Int) (f17 : Int → Int) (f18 : Int → Int) (f19 : Int → Int) (k0 : Int) (k25 : Int) (k33 : Int) (k34 : Int) (hI : k0 = 0 ∧ NXO (s.2 6) (s.2 7) f13 ∧ (x1 = a1 ∧ x2 = a2 ∧ x3 = a3 ∧ 0 ≤ a1 ∧ a1 < s.2 6 2 ∧ 0 ≤ a2 ∧ a2 < s.2 6 2 ∧ 0 ≤ a3 ∧ a3 ≤ 2) ∧ (0 ≤ x4 ∧ x4 ≤ s.2 6 2) ∧ ∀ z : Int, 0 ≤ z → z < x4 → f17 z = -1) (c_1 : (s.2 6 2) ≤ x4) : lex3 0 1 ((s.2 6 2 - (0 : Int)).toNat) 0 2 ((s.2 6 2 - x4).toNat) := by
  obtain ⟨ht, ha⟩ := hp
  have hN := tOK_N ht
  have hg := nx_rng (s.2 6) (s.2 7)
  (try simp only [bI_0, bI_n, Classical.not_not] at *)
  (try have hq := ‹NXO (s.2 6) (s.2 7) _›)
  (try have hq := hI.2.1)
  (try have h4 := it_b hg (x := a2) (by omega) (by omega) x5.toNat)
  (try have hc := cnt_nn f17 (-1) (s.2 6 2).toNat)
  (try (have h5 := it_b hg (x := a1) (by omega) (by omega) x6.toNat; rw [← hI.2.2.2.2.2.1] at h5; have h6 := hI.2.2.2.2.1 x5 h5.1 h5.2; have h7 := hq x5 h5.1 h5.2))
  (try unfold lex3)
  (try simp only [bI_0, bI_n, Classical.not_not] at *)
  (try simp (disch := omega) only [i32_id] at *)
  first | done | omega | ((repeat' (with_reducible apply And.intro)) <;> first | assumption | rfl | omega | (exact hI.1) | (exact hI.2.1) | (exact hq) | (exact hI.2.2.2.2.1) | (unfold rJoin; rw [if_neg (by omega)]) | (exact hI.2.2.1.2.1) | (exact hI.2.2.1.1) | (intro z h0 h1; omega) | (exact WM_0 (fun w a b => hI.2.2.2.2 w a (by omega))) | (rw [cnt_all _ (fun i a b => hI.2.2.2.2 i a (by omega))]; omega) | (exact upto_s (p := fun z v => v = -1) hI.2.2.2.2 rfl) | (rw [hI.2.2.2.2.1]; omega) | (have e9 := hI.2.2.2.2.1; rw [e9] at c_2; exact WM_e hg (by omega) (by omega) hI.2.2.2.2.2.1 c_2) | (rw [hI.2.2.2.2.1, hq _ h4.1 h4.2, show (x5 + 1).toNat = x5.toNat + 1 by omega]; rfl) | (rw [show (x5 + 1).toNat = x5.toNat + 1 by omega]; have e9 := WM_s hI.2.2.2.2.2.1 (by rw [← hI.2.2.2.2.1]; assumption); rw [← hI.2.2.2.2.1, show ((x5.toNat : Nat) : Int) = x5 by omega] at e9; exact e9) | (have e9 := cnt_upd (g := f17) (i := x4) (x := x5) (v := -1) (n := (s.2 6 2).toNat) (by omega) (by omega); rw [if_pos c_2, if_neg (by omega)] at e9; omega) | (have e9 := cnt_at (g := f17) (i := x4) (s.2 6 2).toNat (by omega) (by omega); rw [c_2] at e9; omega) | (rw [h7, hI.2.2.2.2.2.1, show (x6 + 1).toNat = x6.toNat + 1 by omega]; rfl) | (intro j h0 h1; by_cases e9 : j = x6; (focus (rw [e9, ← hI.2.2.2.2.2.1]; exact h6.2 c_3)); (focus (exact hI.2.2.2.2.2.2 j h0 (by omega)))) | (unfold rJoin; rw [if_pos (by omega), if_pos (join_no (fun j a b => hI.2.2.2.2.2.2 j a (by omega)))]) | (have ej := join_at (N := s.2 6 2) hI.2.2.2.1.1 (by omega) (by rw [← hI.2.2.2.2.2.1]; exact (h6.1 c_3).1) hI.2.2.2.2.2.2; unfold rJoin; rw [if_pos (by omega), ej, if_neg (by omega), ← hI.2.2.2.2.2.1]; first | rw [if_pos (by omega)] | rw [if_neg (by omega), if_pos (by omega)] | (rw [if_neg (by omega), if_neg (by omega)]; exact (h6.1 c_3).2)) | grind [upI])
theorem vX3_join_3 (s : MS) (a1 : Int) (a2 : Int) (a3 : Int) (hp : tOK (s.2 6) ∧ aOK (s.2 6) (s.2 7)) (x1 : Int) (x2 : Int) (x3 : Int) (x4 : Int) (f11 : Int → Int) (f12 : Int → Int) (f13 : Int → Int) (f14 : Int → Int) (f15 : Int → Int) (f16 : Int → Int) (f17 : Int → Int) (f18 : Int → Int) (f19 : Int → Int) (k0 : Int) (k25 : Int) (k33 : Int) (k34 : Int) (hI : k0 = 0 ∧ NXO (s.2 6) (s.2 7) f13 ∧ (x1 = a1 ∧ x2 = a2 ∧ x3 = a3 ∧ 0 ≤ a1 ∧ a1 < s.2 6 2 ∧ 0 ≤ a2 ∧ a2 < s.2 6 2 ∧ 0 ≤ a3 ∧ a3 ≤ 2) ∧ (0 ≤ x4 ∧ x4 ≤ s.2 6 2) ∧ ∀ z : Int, 0 ≤ z → z < x4 → f17 z = -1) (c_1 : ¬ (s.2 6 2) ≤ x4) : (0 ≤ x4 ∧ x4 < 10000) := by
  obtain ⟨ht, ha⟩ := hp
  have hN := tOK_N ht
  have hg := nx_rng (s.2 6) (s.2 7)
  (try simp only [bI_0, bI_n, Classical.not_not] at *)
  (try have hq := ‹NXO (s.2 6) (s.2 7) _›)
  (try have hq := hI.2.1)
  (try have h4 := it_b hg (x := a2) (by omega) (by omega) x5.toNat)
  (try have hc := cnt_nn f17 (-1) (s.2 6 2).toNat)
  (try (have h5 := it_b hg (x := a1) (by omega) (by omega) x6.toNat; rw [← hI.2.2.2.2.2.1] at h5; have h6 := hI.2.2.2.2.1 x5 h5.1 h5.2; have h7 := hq x5 h5.1 h5.2))
  (try unfold lex3)
  (try simp only [bI_0, bI_n, Classical.not_not] at *)
  (try simp (disch := omega) only [i32_id] at *)
  first | done | omega | ((repeat' (with_reducible apply And.intro)) <;> first | assumption | rfl | omega | (exact hI.1) | (exact hI.2.1) | (exact hq) | (exact hI.2.2.2.2.1) | (unfold rJoin; rw [if_neg (by omega)]) | (exact hI.2.2.1.2.1) | (exact hI.2.2.1.1) | (intro z h0 h1; omega) | (exact WM_0 (fun w a b => hI.2.2.2.2 w a (by omega))) | (rw [cnt_all _ (fun i a b => hI.2.2.2.2 i a (by omega))]; omega) | (exact upto_s (p := fun z v => v = -1) hI.2.2.2.2 rfl) | (rw [hI.2.2.2.2.1]; omega) | (have e9 := hI.2.2.2.2.1; rw [e9] at c_2; exact WM_e hg (by omega) (by omega) hI.2.2.2.2.2.1 c_2) | (rw [hI.2.2.2.2.1, hq _ h4.1 h4.2, show (x5 + 1).toNat = x5.toNat + 1 by omega]; rfl) | (rw [show (x5 + 1).toNat = x5.toNat + 1 by omega]; have e9 := WM_s hI.2.2.2.2.2.1 (by rw [← hI.2.2.2.2.1]; assumption); rw [← hI.2.2.2.2.1, show ((x5.toNat : Nat) : Int) = x5 by omega] at e9; exact e9) | (have e9 := cnt_upd (g := f17) (i := x4) (x := x5) (v := -1) (n := (s.2 6 2).toNat) (by omega) (by omega); rw [if_pos c_2, if_neg (by omega)] at e9; omega) | (have e9 := cnt_at (g := f17) (i := x4) (s.2 6 2).toNat (by omega) (by omega); rw [c_2] at e9; omega) | (rw [h7, hI.2.2.2.2.2.1, show (x6 + 1).toNat = x6.toNat + 1 by omega]; rfl) | (intro j h0 h1; by_cases e9 : j = x6; (focus (rw [e9, ← hI.2.2.2.2.2.1]; exact h6.2 c_3)); (focus (exact hI.2.2.2.2.2.2 j h0 (by omega)))) | (unfold rJoin; rw [if_pos (by omega), if_pos (join_no (fun j a b => hI.2.2.2.2.2.2 j a (by omega)))]) | (have ej := join_at (N := s.2 6 2) hI.2.2.2.1.1 (by omega) (by rw [← hI.2.2.2.2.2.1]; exact (h6.1 c_3).1) hI.2.2.2.2.2.2; unfold rJoin; rw [if_pos (by omega), ej, if_neg (by omega), ← hI.2.2.2.2.2.1]; first | rw [if_pos (by omega)] | rw [if_neg (by omega), if_pos (by omega)] | (rw [if_neg (by omega), if_neg (by omega)]; exact (h6.1 c_3).2)) | grind [upI])
theorem vX3_join_4 (s : MS) (a1 : Int) (a2 : Int) (a3 : Int) (hp : tOK (s.2 6) ∧ aOK (s.2 6) (s.2 7)) (x1 : Int) (x2 : Int) (x3 : Int) (x4 : Int) (f11 : Int → Int) (f12 : Int → Int) (f13 : Int → Int) (f14 : Int → Int) (f15 : Int → Int) (f16 : Int → Int) (f17 : Int → Int) (f18 : Int → Int) (f19 : Int → Int) (k0 : Int) (k25 : Int) (k33 : Int) (k34 : Int) (hI : k0 = 0 ∧ NXO (s.2 6) (s.2 7) f13 ∧ (x1 = a1 ∧ x2 = a2 ∧ x3 = a3 ∧ 0 ≤ a1 ∧ a1 < s.2 6 2 ∧ 0 ≤ a2 ∧ a2 < s.2 6 2 ∧ 0 ≤ a3 ∧ a3 ≤ 2) ∧ (0 ≤ x4 ∧ x4 ≤ s.2 6 2) ∧ ∀ z : Int, 0 ≤ z → z < x4 → f17 z = -1) (c_1 : ¬ (s.2 6 2) ≤ x4) (o_2 : (0 ≤ x4 ∧ x4 < 10000)) : k0 = 0 ∧ NXO (s.2 6) (s.2 7) f13 ∧ (x1 = a1 ∧ x2 = a2 ∧ x3 = a3 ∧ 0 ≤ a1 ∧ a1 < s.2 6 2 ∧ 0 ≤ a2 ∧ a2 < s.2 6 2 ∧ 0 ≤ a3 ∧ a3 ≤ 2) ∧ (0 ≤ (i32 (x4 + 1)) ∧ (i32 (x4 + 1)) ≤ s.2 6 2) ∧ ∀ z : Int, 0 ≤ z → z < (i32 (x4 + 1)) → (upI f17 x4 (-1)) z = -1 := by
  obtain ⟨ht, ha⟩ := hp
  have hN := tOK_N ht
  have hg := nx_rng (s.2 6) (s.2 7)
  (try simp only [bI_0, bI_n, Classical.not_not] at *)
  (try have hq := ‹NXO (s.2 6) (s.2 7) _›)
  (try have hq := hI.2.1)
  (try have h4 := it_b hg (x := a2) (by omega) (by omega) x5.toNat)
  (try have hc := cnt_nn f17 (-1) (s.2 6 2).toNat)
  (try (have h5 := it_b hg (x := a1) (by omega) (by omega) x6.toNat; rw [← hI.2.2.2.2.2.1] at h5; have h6 := hI.2.2.2.2.1 x5 h5.1 h5.2; have h7 := hq x5 h5.1 h5.2))
  (try unfold lex3)
  (try simp only [bI_0, bI_n, Classical.not_not] at *)
  (try simp (disch := omega) only [i32_id] at *)
  first | done | omega | ((repeat' (with_reducible apply And.intro)) <;> first | assumption | rfl | omega | (exact hI.1) | (exact hI.2.1) | (exact hq) | (exact hI.2.2.2.2.1) | (unfold rJoin; rw [if_neg (by omega)]) | (exact hI.2.2.1.2.1) | (exact hI.2.2.1.1) | (intro z h0 h1; omega) | (exact WM_0 (fun w a b => hI.2.2.2.2 w a (by omega))) | (rw [cnt_all _ (fun i a b => hI.2.2.2.2 i a (by omega))]; omega) | (exact upto_s (p := fun z v => v = -1) hI.2.2.2.2 rfl) | (rw [hI.2.2.2.2.1]; omega) | (have e9 := hI.2.2.2.2.1; rw [e9] at c_2; exact WM_e hg (by omega) (by omega) hI.2.2.2.2.2.1 c_2) | (rw [hI.2.2.2.2.1, hq _ h4.1 h4.2, show (x5 + 1).toNat = x5.toNat + 1 by omega]; rfl) | (rw [show (x5 + 1).toNat = x5.toNat + 1 by omega]; have e9 := WM_s hI.2.2.2.2.2.1 (by rw [← hI.2.2.2.2.1]; assumption); rw [← hI.2.2.2.2.1, show ((x5.toNat : Nat) : Int) = x5 by omega] at e9; exact e9) | (have e9 := cnt_upd (g := f17) (i := x4) (x := x5) (v := -1) (n := (s.2 6 2).toNat) (by omega) (by omega); rw [if_pos c_2, if_neg (by omega)] at e9; omega) | (have e9 := cnt_at (g := f17) (i := x4) (s.2 6 2).toNat (by omega) (by omega); rw [c_2] at e9; omega) | (rw [h7, hI.2.2.2.2.2.1, show (x6 + 1).toNat = x6.toNat + 1 by omega]; rfl) | (intro j h0 h1; by_cases e9 : j = x6; (focus (rw [e9, ← hI.2.2.2.2.2.1]; exact h6.2 c_3)); (focus (exact hI.2.2.2.2.2.2 j h0 (by omega)))) | (unfold rJoin; rw [if_pos (by omega), if_pos (join_no (fun j a b => hI.2.2.2.2.2.2 j a (by omega)))]) | (have ej := join_at (N := s.2 6 2) hI.2.2.2.1.1 (by omega) (by rw [← hI.2.2.2.2.2.1]; exact (h6.1 c_3).1) hI.2.2.2.2.2.2; unfold rJoin; rw [if_pos (by omega), ej, if_neg (by omega), ← hI.2.2.2.2.2.1]; first | rw [if_pos (by omega)] | rw [if_neg (by omega), if_pos (by omega)] | (rw [if_neg (by omega), if_neg (by omega)]; exact (h6.1 c_3).2)) | grind [upI])
theorem vX3_join_5 (s : MS) (a1 : Int) (a2 : Int) (a3 : Int) (hp : tOK (s.2 6) ∧ aOK (s.2 6) (s.2 7)) (x1 : Int) (x2 : Int) (x3 : Int) (x4 : Int) (f11 : Int → Int) (f12 : Int → Int) (f13 : Int → Int) (f14 : Int → Int) (f15 : Int → Int) (f16 : Int → Int) (f17 : Int → Int) (f18 : Int → Int) (f19 : Int → Int) (k0 : Int) (k25 : Int) (k33 : Int) (k34 : Int) (hI : k0 = 0 ∧ NXO (s.2 6) (s.2 7) f13 ∧ (x1 = a1 ∧ x2 = a2 ∧ x3 = a3 ∧ 0 ≤ a1 ∧ a1 < s.2 6 2 ∧ 0 ≤ a2 ∧ a2 < s.2 6 2 ∧ 0 ≤ a3 ∧ a3 ≤ 2) ∧ (0 ≤ x4 ∧ x4 ≤ s.2 6 2) ∧ ∀ z : Int, 0 ≤ z → z < x4 → f17 z = -1) (c_1 : ¬ (s.2 6 2) ≤ x4) (o_2 : (0 ≤ x4 ∧ x4 < 10000)) : lex3 0 2 ((s.2 6 2 - (i32 (x4 + 1))).toNat) 0 2 ((s.2 6 2 - x4).toNat) := by
  obtain ⟨ht, ha⟩ := hp
  have hN := tOK_N ht
  have hg := nx_rng (s.2 6) (s.2 7)
  (try simp only [bI_0, bI_n, Classical.not_not] at *)
  (try have hq := ‹NXO (s.2 6) (s.2 7) _›)
  (try have hq := hI.2.1)
  (try have h4 := it_b hg (x := a2) (by omega) (by omega) x5.toNat)
  (try have hc := cnt_nn f17 (-1) (s.2 6 2).toNat)
  (try (have h5 := it_b hg (x := a1) (by omega) (by omega) x6.toNat; rw [← hI.2.2.2.2.2.1] at h5; have h6 := hI.2.2.2.2.1 x5 h5.1 h5.2; have h7 := hq x5 h5.1 h5.2))
  (try unfold lex3)
  (try simp only [bI_0, bI_n, Classical.not_not] at *)
  (try simp (disch := omega) only [i32_id] at *)
  first | done | omega | ((repeat' (with_reducible apply And.intro)) <;> first | assumption | rfl | omega | (exact hI.1) | (exact hI.2.1) | (exact hq) | (exact hI.2.2.2.2.1) | (unfold rJoin; rw [if_neg (by omega)]) | (exact hI.2.2.1.2.1) | (exact hI.2.2.1.1) | (intro z h0 h1; omega) | (exact WM_0 (fun w a b => hI.2.2.2.2 w a (by omega))) | (rw [cnt_all _ (fun i a b => hI.2.2.2.2 i a (by omega))]; omega) | (exact upto_s (p := fun z v => v = -1) hI.2.2.2.2 rfl) | (rw [hI.2.2.2.2.1]; omega) | (have e9 := hI.2.2.2.2.1; rw [e9] at c_2; exact WM_e hg (by omega) (by omega) hI.2.2.2.2.2.1 c_2) | (rw [hI.2.2.2.2.1, hq _ h4.1 h4.2, show (x5 + 1).toNat = x5.toNat + 1 by omega]; rfl) | (rw [show (x5 + 1).toNat = x5.toNat + 1 by omega]; have e9 := WM_s hI.2.2.2.2.2.1 (by rw [← hI.2.2.2.2.1]; assumption); rw [← hI.2.2.2.2.1, show ((x5.toNat : Nat) : Int) = x5 by omega] at e9; exact e9) | (have e9 := cnt_upd (g := f17) (i := x4) (x := x5) (v := -1) (n := (s.2 6 2).toNat) (by omega) (by omega); rw [if_pos c_2, if_neg (by omega)] at e9; omega) | (have e9 := cnt_at (g := f17) (i := x4) (s.2 6 2).toNat (by omega) (by omega); rw [c_2] at e9; omega) | (rw [h7, hI.2.2.2.2.2.1, show (x6 + 1).toNat = x6.toNat + 1 by omega]; rfl) | (intro j h0 h1; by_cases e9 : j = x6; (focus (rw [e9, ← hI.2.2.2.2.2.1]; exact h6.2 c_3)); (focus (exact hI.2.2.2.2.2.2 j h0 (by omega)))) | (unfold rJoin; rw [if_pos (by omega), if_pos (join_no (fun j a b => hI.2.2.2.2.2.2 j a (by omega)))]) | (have ej := join_at (N := s.2 6 2) hI.2.2.2.1.1 (by omega) (by rw [← hI.2.2.2.2.2.1]; exact (h6.1 c_3).1) hI.2.2.2.2.2.2; unfold rJoin; rw [if_pos (by omega), ej, if_neg (by omega), ← hI.2.2.2.2.2.1]; first | rw [if_pos (by omega)] | rw [if_neg (by omega), if_pos (by omega)] | (rw [if_neg (by omega), if_neg (by omega)]; exact (h6.1 c_3).2)) | grind [upI])
theorem vX3_join_6 (s : MS) (a1 : Int) (a2 : Int) (a3 : Int) (hp : tOK (s.2 6) ∧ aOK (s.2 6) (s.2 7)) (x1 : Int) (x3 : Int) (x4 : Int) (x5 : Int) (f11 : Int → Int) (f12 : Int → Int) (f13 : Int → Int) (f14 : Int → Int) (f15 : Int → Int) (f16 : Int → Int) (f17 : Int → Int) (f18 : Int → Int) (f19 : Int → Int) (k0 : Int) (k25 : Int) (k33 : Int) (k34 : Int) (hI : k0 = 0 ∧ NXO (s.2 6) (s.2 7) f13 ∧ (x1 = a1 ∧ x3 = a3 ∧ 0 ≤ a1 ∧ a1 < s.2 6 2 ∧ 0 ≤ a2 ∧ a2 < s.2 6 2 ∧ 0 ≤ a3 ∧ a3 ≤ 2) ∧ 0 ≤ x5 ∧ x4 = it (nx (s.2 6) (s.2 7)) a2 x5.toNat ∧ WM (nx (s.2 6) (s.2 7)) f17 (s.2 6 2) a2 x5.toNat ∧ x5 + cnt f17 (-1) (s.2 6 2).toNat = s.2 6 2) : (0 ≤ x4 ∧ x4 < 10000) := by
  obtain ⟨ht, ha⟩ := hp
  have hN := tOK_N ht
  have hg := nx_rng (s.2 6) (s.2 7)
  (try simp only [bI_0, bI_n, Classical.not_not] at *)
  (try have hq := ‹NXO (s.2 6) (s.2 7) _›)
  (try have hq := hI.2.1)
  (try have h4 := it_b hg (x := a2) (by omega) (by omega) x5.toNat)
  (try have hc := cnt_nn f17 (-1) (s.2 6 2).toNat)
  (try (have h5 := it_b hg (x := a1) (by omega) (by omega) x6.toNat; rw [← hI.2.2.2.2.2.1] at h5; have h6 := hI.2.2.2.2.1 x5 h5.1 h5.2; have h7 := hq x5 h5.1 h5.2))
  (try unfold lex3)
  (try simp only [bI_0, bI_n, Classical.not_not] at *)
  (try simp (disch := omega) only [i32_id] at *)
  first | done | omega | ((repeat' (with_reducible apply And.intro)) <;> first | assumption | rfl | omega | (exact hI.1) | (exact hI.2.1) | (exact hq) | (exact hI.2.2.2.2.1) | (unfold rJoin; rw [if_neg (by omega)]) | (exact hI.2.2.1.2.1) | (exact hI.2.2.1.1) | (intro z h0 h1; omega) | (exact WM_0 (fun w a b => hI.2.2.2.2 w a (by omega))) | (rw [cnt_all _ (fun i a b => hI.2.2.2.2 i a (by omega))]; omega) | (exact upto_s (p := fun z v => v = -1) hI.2.2.2.2 rfl) | (rw [hI.2.2.2.2.1]; omega) | (have e9 := hI.2.2.2.2.1; rw [e9] at c_2; exact WM_e hg (by omega) (by omega) hI.2.2.2.2.2.1 c_2) | (rw [hI.2.2.2.2.1, hq _ h4.1 h4.2, show (x5 + 1).toNat = x5.toNat + 1 by omega]; rfl) | (rw [show (x5 + 1).toNat = x5.toNat + 1 by omega]; have e9 := WM_s hI.2.2.2.2.2.1 (by rw [← hI.2.2.2.2.1]; assumption); rw [← hI.2.2.2.2.1, show ((x5.toNat : Nat) : Int) = x5 by omega] at e9; exact e9) | (have e9 := cnt_upd (g := f17) (i := x4) (x := x5) (v := -1) (n := (s.2 6 2).toNat) (by omega) (by omega); rw [if_pos c_2, if_neg (by omega)] at e9; omega) | (have e9 := cnt_at (g := f17) (i := x4) (s.2 6 2).toNat (by omega) (by omega); rw [c_2] at e9; omega) | (rw [h7, hI.2.2.2.2.2.1, show (x6 + 1).toNat = x6.toNat + 1 by omega]; rfl) | (intro j h0 h1; by_cases e9 : j = x6; (focus (rw [e9, ← hI.2.2.2.2.2.1]; exact h6.2 c_3)); (focus (exact hI.2.2.2.2.2.2 j h0 (by omega)))) | (unfold rJoin; rw [if_pos (by omega), if_pos (join_no (fun j a b => hI.2.2.2.2.2.2 j a (by omega)))]) | (have ej := join_at (N := s.2 6 2) hI.2.2.2.1.1 (by omega) (by rw [← hI.2.2.2.2.2.1]; exact (h6.1 c_3).1) hI.2.2.2.2.2.2; unfold rJoin; rw [if_pos (by omega), ej, if_neg (by omega), ← hI.2.2.2.2.2.1]; first | rw [if_pos (by omega)] | rw [if_neg (by omega), if_pos (by omega)] | (rw [if_neg (by omega), if_neg (by omega)]; exact (h6.1 c_3).2)) | grind [upI])
theorem vX3_join_7 (s : MS) (a1 : Int) (a2 : Int) (a3 : Int) (hp : tOK (s.2 6) ∧ aOK (s.2 6) (s.2 7)) (x1 : Int) (x3 : Int) (x4 : Int) (x5 : Int) (f11 : Int → Int) (f12 : Int → Int) (f13 : Int → Int) (f14 : Int → Int) (f15 : Int → Int) (f16 : Int → Int) (f17 : Int → Int) (f18 : Int → Int) (f19 : Int → Int) (k0 : Int) (k25 : Int) (k33 : Int) (k34 : Int) (hI : k0 = 0 ∧ NXO (s.2 6) (s.2 7) f13 ∧ (x1 = a1 ∧ x3 = a3 ∧ 0 ≤ a1 ∧ a1 < s.2 6 2 ∧ 0 ≤ a2 ∧ a2 < s.2 6 2 ∧ 0 ≤ a3 ∧ a3 ≤ 2) ∧ 0 ≤ x5 ∧ x4 = it (nx (s.2 6) (s.2 7)) a2 x5.toNat ∧ WM (nx (s.2 6) (s.2 7)) f17 (s.2 6 2) a2 x5.toNat ∧ x5 + cnt f17 (-1) (s.2 6 2).toNat = s.2 6 2) (o_1 : (0 ≤ x4 ∧ x4 < 10000)) (c_2 : ¬ (f17 x4) = (-1)) : k0 = 0 ∧ NXO (s.2 6) (s.2 7) f13 ∧ (x3 = a3 ∧ 0 ≤ a1 ∧ a1 < s.2 6 2 ∧ 0 ≤ a2 ∧ a2 < s.2 6 2 ∧ 0 ≤ a3 ∧ a3 ≤ 2) ∧ (0 ≤ (0 : Int) ∧ (0 : Int) ≤ s.2 6 2 + 1) ∧ (∀ w : Int, 0 ≤ w → w < s.2 6 2 → (f17 w ≠ -1 → orb (nx (s.2 6) (s.2 7)) a2 w ∧ f17 w = idx (nx (s.2 6) (s.2 7)) a2 w) ∧ (f17 w = -1 → ¬ orb (nx (s.2 6) (s.2 7)) a2 w)) ∧ x1 = it (nx (s.2 6) (s.2 7)) a1 (0 : Int).toNat ∧ ∀ j : Int, 0 ≤ j → j < (0 : Int) → ¬ orb (nx (s.2 6) (s.2 7)) a2 (it (nx (s.2 6) (s.2 7)) a1 j.toNat) := by
  obtain ⟨ht, ha⟩ := hp
  have hN := tOK_N ht
  have hg := nx_rng (s.2 6) (s.2 7)
  (try simp only [bI_0, bI_n, Classical.not_not] at *)
  (try have hq := ‹NXO (s.2 6) (s.2 7) _›)
  (try have hq := hI.2.1)
  (try have h4 := it_b hg (x := a2) (by omega) (by omega) x5.toNat)
  (try have hc := cnt_nn f17 (-1) (s.2 6 2).toNat)
  (try (have h5 := it_b hg (x := a1) (by omega) (by omega) x6.toNat; rw [← hI.2.2.2.2.2.1] at h5; have h6 := hI.2.2.2.2.1 x5 h5.1 h5.2; have h7 := hq x5 h5.1 h5.2))
  (try unfold lex3)
  (try simp only [bI_0, bI_n, Classical.not_not] at *)
  (try simp (disch := omega) only [i32_id] at *)
  first | done | omega | ((repeat' (with_reducible apply And.intro)) <;> first | assumption | rfl | omega | (exact hI.1) | (exact hI.2.1) | (exact hq) | (exact hI.2.2.2.2.1) | (unfold rJoin; rw [if_neg (by omega)]) | (exact hI.2.2.1.2.1) | (exact hI.2.2.1.1) | (intro z h0 h1; omega) | (exact WM_0 (fun w a b => hI.2.2.2.2 w a (by omega))) | (rw [cnt_all _ (fun i a b => hI.2.2.2.2 i a (by omega))]; omega) | (exact upto_s (p := fun z v => v = -1) hI.2.2.2.2 rfl) | (rw [hI.2.2.2.2.1]; omega) | (have e9 := hI.2.2.2.2.1; rw [e9] at c_2; exact WM_e hg (by omega) (by omega) hI.2.2.2.2.2.1 c_2) | (rw [hI.2.2.2.2.1, hq _ h4.1 h4.2, show (x5 + 1).toNat = x5.toNat + 1 by omega]; rfl) | (rw [show (x5 + 1).toNat = x5.toNat + 1 by omega]; have e9 := WM_s hI.2.2.2.2.2.1 (by rw [← hI.2.2.2.2.1]; assumption); rw [← hI.2.2.2.2.1, show ((x5.toNat : Nat) : Int) = x5 by omega] at e9; exact e9) | (have e9 := cnt_upd (g := f17) (i := x4) (x := x5) (v := -1) (n := (s.2 6 2).toNat) (by omega) (by omega); rw [if_pos c_2, if_neg (by omega)] at e9; omega) | (have e9 := cnt_at (g := f17) (i := x4) (s.2 6 2).toNat (by omega) (by omega); rw [c_2] at e9; omega) | (rw [h7, hI.2.2.2.2.2.1, show (x6 + 1).toNat = x6.toNat + 1 by omega]; rfl) | (intro j h0 h1; by_cases e9 : j = x6; (focus (rw [e9, ← hI.2.2.2.2.2.1]; exact h6.2 c_3)); (focus (exact hI.2.2.2.2.2.2 j h0 (by omega)))) | (unfold rJoin; rw [if_pos (by omega), if_pos (join_no (fun j a b => hI.2.2.2.2.2.2 j a (by omega)))]) | (have ej := join_at (N := s.2 6 2) hI.2.2.2.1.1 (by omega) (by rw [← hI.2.2.2.2.2.1]; exact (h6.1 c_3).1) hI.2.2.2.2.2.2; unfold rJoin; rw [if_pos (by omega), ej, if_neg (by omega), ← hI.2.2.2.2.2.1]; first | rw [if_pos (by omega)] | rw [if_neg (by omega), if_pos (by omega)] | (rw [if_neg (by omega), if_neg (by omega)]; exact (h6.1 c_3).2)) | grind [upI])
theorem vX3_join_8 (s : MS) (a1 : Int) (a2 : Int) (a3 : Int) (hp : tOK (s.2 6) ∧ aOK (s.2 6) (s.2 7)) (x1 : Int) (x3 : Int) (x4 : Int) (x5 : Int) (f11 : Int → Int) (f12 : Int → Int) (f13 : Int → Int) (f14 : Int → Int) (f15 : Int → Int) (f16 : Int → Int) (f17 : Int → Int) (f18 : Int → Int) (f19 : Int → Int) (k0 : Int) (k25 : Int) (k33 : Int) (k34 : Int) (hI : k0 = 0 ∧ NXO (s.2 6) (s.2 7) f13 ∧ (x1 = a1 ∧ x3 = a3 ∧ 0 ≤ a1 ∧ a1 < s.2 6 2 ∧ 0 ≤ a2 ∧ a2 < s.2 6 2 ∧ 0 ≤ a3 ∧ a3 ≤ 2) ∧ 0 ≤ x5 ∧ x4 = it (nx (s.2 6) (s.2 7)) a2 x5.toNat ∧ WM (nx (s.2 6) (s.2 7)) f17 (s.2 6 2) a2 x5.toNat ∧ x5 + cnt f17 (-1) (s.2 6 2).toNat = s.2 6 2) (o_1 : (0 ≤ x4 ∧ x4 < 10000)) (c_2 : ¬ (f17 x4) = (-1)) : lex3 0 0 ((s.2 6 2 + 1 - (0 : Int)).toNat) 0 1 ((s.2 6 2 - x5).toNat) := by
  obtain ⟨ht, ha⟩ := hp
  have hN := tOK_N ht
  have hg := nx_rng (s.2 6) (s.2 7)
  (try simp only [bI_0, bI_n, Classical.not_not] at *)
  (try have hq := ‹NXO (s.2 6) (s.2 7) _›)
  (try have hq := hI.2.1)
  (try have h4 := it_b hg (x := a2) (by omega) (by omega) x5.toNat)
  (try have hc := cnt_nn f17 (-1) (s.2 6 2).toNat)
  (try (have h5 := it_b hg (x := a1) (by omega) (by omega) x6.toNat; rw [← hI.2.2.2.2.2.1] at h5; have h6 := hI.2.2.2.2.1 x5 h5.1 h5.2; have h7 := hq x5 h5.1 h5.2))
  (try unfold lex3)
  (try simp only [bI_0, bI_n, Classical.not_not] at *)
  (try simp (disch := omega) only [i32_id] at *)
  first | done | omega | ((repeat' (with_reducible apply And.intro)) <;> first | assumption | rfl | omega | (exact hI.1) | (exact hI.2.1) | (exact hq) | (exact hI.2.2.2.2.1) | (unfold rJoin; rw [if_neg (by omega)]) | (exact hI.2.2.1.2.1) | (exact hI.2.2.1.1) | (intro z h0 h1; omega) | (exact WM_0 (fun w a b => hI.2.2.2.2 w a (by omega))) | (rw [cnt_all _ (fun i a b => hI.2.2.2.2 i a (by omega))]; omega) | (exact upto_s (p := fun z v => v = -1) hI.2.2.2.2 rfl) | (rw [hI.2.2.2.2.1]; omega) | (have e9 := hI.2.2.2.2.1; rw [e9] at c_2; exact WM_e hg (by omega) (by omega) hI.2.2.2.2.2.1 c_2) | (rw [hI.2.2.2.2.1, hq _ h4.1 h4.2, show (x5 + 1).toNat = x5.toNat + 1 by omega]; rfl) | (rw [show (x5 + 1).toNat = x5.toNat + 1 by omega]; have e9 := WM_s hI.2.2.2.2.2.1 (by rw [← hI.2.2.2.2.1]; assumption); rw [← hI.2.2.2.2.1, show ((x5.toNat : Nat) : Int) = x5 by omega] at e9; exact e9) | (have e9 := cnt_upd (g := f17) (i := x4) (x := x5) (v := -1) (n := (s.2 6 2).toNat) (by omega) (by omega); rw [if_pos c_2, if_neg (by omega)] at e9; omega) | (have e9 := cnt_at (g := f17) (i := x4) (s.2 6 2).toNat (by omega) (by omega); rw [c_2] at e9; omega) | (rw [h7, hI.2.2.2.2.2.1, show (x6 + 1).toNat = x6.toNat + 1 by omega]; rfl) | (intro j h0 h1; by_cases e9 : j = x6; (focus (rw [e9, ← hI.2.2.2.2.2.1]; exact h6.2 c_3)); (focus (exact hI.2.2.2.2.2.2 j h0 (by omega)))) | (unfold rJoin; rw [if_pos (by omega), if_pos (join_no (fun j a b => hI.2.2.2.2.2.2 j a (by omega)))]) | (have ej := join_at (N := s.2 6 2) hI.2.2.2.1.1 (by omega) (by rw [← hI.2.2.2.2.2.1]; exact (h6.1 c_3).1) hI.2.2.2.2.2.2; unfold rJoin; rw [if_pos (by omega), ej, if_neg (by omega), ← hI.2.2.2.2.2.1]; first | rw [if_pos (by omega)] | rw [if_neg (by omega), if_pos (by omega)] | (rw [if_neg (by omega), if_neg (by omega)]; exact (h6.1 c_3).2)) | grind [upI])
theorem vX3_join_9 (s : MS) (a1 : Int) (a2 : Int) (a3 : Int) (hp : tOK (s.2 6) ∧ aOK (s.2 6) (s.2 7)) (x1 : Int) (x3 : Int) (x4 : Int) (x5 : Int) (f11 : Int → Int) (f12 : Int → Int) (f13 : Int → Int) (f14 : Int → Int) (f15 : Int → Int) (f16 : Int → Int) (f17 : Int → Int) (f18 : Int → Int) (f19 : Int → Int) (k0 : Int) (k25 : Int) (k33 : Int) (k34 : Int) (hI : k0 = 0 ∧ NXO (s.2 6) (s.2 7) f13 ∧ (x1 = a1 ∧ x3 = a3 ∧ 0 ≤ a1 ∧ a1 < s.2 6 2 ∧ 0 ≤ a2 ∧ a2 < s.2 6 2 ∧ 0 ≤ a3 ∧ a3 ≤ 2) ∧ 0 ≤ x5 ∧ x4 = it (nx (s.2 6) (s.2 7)) a2 x5.toNat ∧ WM (nx (s.2 6) (s.2 7)) f17 (s.2 6 2) a2 x5.toNat ∧ x5 + cnt f17 (-1) (s.2 6 2).toNat = s.2 6 2) (o_1 : (0 ≤ x4 ∧ x4 < 10000)) (c_2 : (f17 x4) = (-1)) : k0 = 0 ∧ NXO (s.2 6) (s.2 7) f13 ∧ (x1 = a1 ∧ x3 = a3 ∧ 0 ≤ a1 ∧ a1 < s.2 6 2 ∧ 0 ≤ a2 ∧ a2 < s.2 6 2 ∧ 0 ≤ a3 ∧ a3 ≤ 2) ∧ 0 ≤ (i32 (x5 + 1)) ∧ (f13 x4) = it (nx (s.2 6) (s.2 7)) a2 (i32 (x5 + 1)).toNat ∧ WM (nx (s.2 6) (s.2 7)) (upI f17 x4 x5) (s.2 6 2) a2 (i32 (x5 + 1)).toNat ∧ (i32 (x5 + 1)) + cnt (upI f17 x4 x5) (-1) (s.2 6 2).toNat = s.2 6 2 := by
  obtain ⟨ht, ha⟩ := hp
  have hN := tOK_N ht
  have hg := nx_rng (s.2 6) (s.2 7)
  (try simp only [bI_0, bI_n, Classical.not_not] at *)
  (try have hq := ‹NXO (s.2 6) (s.2 7) _›)
  (try have hq := hI.2.1)
  (try have h4 := it_b hg (x := a2) (by omega) (by omega) x5.toNat)
  (try have hc := cnt_nn f17 (-1) (s.2 6 2).toNat)
  (try (have h5 := it_b hg (x := a1) (by omega) (by omega) x6.toNat; rw [← hI.2.2.2.2.2.1] at h5; have h6 := hI.2.2.2.2.1 x5 h5.1 h5.2; have h7 := hq x5 h5.1 h5.2))
  (try unfold lex3)
  (try simp only [bI_0, bI_n, Classical.not_not] at *)
  (try simp (disch := omega) only [i32_id] at *)
  first | done | omega | ((repeat' (with_reducible apply And.intro)) <;> first | assumption | rfl | omega | (exact hI.1) | (exact hI.2.1) | (exact hq) | (exact hI.2.2.2.2.1) | (unfold rJoin; rw [if_neg (by omega)]) | (exact hI.2.2.1.2.1) | (exact hI.2.2.1.1) | (intro z h0 h1; omega) | (exact WM_0 (fun w a b => hI.2.2.2.2 w a (by omega))) | (rw [cnt_all _ (fun i a b => hI.2.2.2.2 i a (by omega))]; omega) | (exact upto_s (p := fun z v => v = -1) hI.2.2.2.2 rfl) | (rw [hI.2.2.2.2.1]; omega) | (have e9 := hI.2.2.2.2.1; rw [e9] at c_2; exact WM_e hg (by omega) (by omega) hI.2.2.2.2.2.1 c_2) | (rw [hI.2.2.2.2.1, hq _ h4.1 h4.2, show (x5 + 1).toNat = x5.toNat + 1 by omega]; rfl) | (rw [show (x5 + 1).toNat = x5.toNat + 1 by omega]; have e9 := WM_s hI.2.2.2.2.2.1 (by rw [← hI.2.2.2.2.1]; assumption); rw [← hI.2.2.2.2.1, show ((x5.toNat : Nat) : Int) = x5 by omega] at e9; exact e9) | (have e9 := cnt_upd (g := f17) (i := x4) (x := x5) (v := -1) (n := (s.2 6 2).toNat) (by omega) (by omega); rw [if_pos c_2, if_neg (by omega)] at e9; omega) | (have e9 := cnt_at (g := f17) (i := x4) (s.2 6 2).toNat (by omega) (by omega); rw [c_2] at e9; omega) | (rw [h7, hI.2.2.2.2.2.1, show (x6 + 1).toNat = x6.toNat + 1 by omega]; rfl) | (intro j h0 h1; by_cases e9 : j = x6; (focus (rw [e9, ← hI.2.2.2.2.2.1]; exact h6.2 c_3)); (focus (exact hI.2.2.2.2.2.2 j h0 (by omega)))) | (unfold rJoin; rw [if_pos (by omega), if_pos (join_no (fun j a b => hI.2.2.2.2.2.2 j a (by omega)))]) | (have ej := join_at (N := s.2 6 2) hI.2.2.2.1.1 (by omega) (by rw [← hI.2.2.2.2.2.1]; exact (h6.1 c_3).1) hI.2.2.2.2.2.2; unfold rJoin; rw [if_pos (by omega), ej, if_neg (by omega), ← hI.2.2.2.2.2.1]; first | rw [if_pos (by omega)] | rw [if_neg (by omega), if_pos (by omega)] | (rw [if_neg (by omega), if_neg (by omega)]; exact (h6.1 c_3).2)) | grind [upI])
theorem vX3_join_10 (s : MS) (a1 : Int) (a2 : Int) (a3 : Int) (hp : tOK (s.2 6) ∧ aOK (s.2 6) (s.2 7)) (x1 : Int) (x3 : Int) (x4 : Int) (x5 : Int) (f11 : Int → Int) (f12 : Int → Int) (f13 : Int → Int) (f14 : Int → Int) (f15 : Int → Int) (f16 : Int → Int) (f17 : Int → Int) (f18 : Int → Int) (f19 : Int → Int) (k0 : Int) (k25 : Int) (k33 : Int) (k34 : Int) (hI : k0 = 0 ∧ NXO (s.2 6) (s.2 7) f13 ∧ (x1 = a1 ∧ x3 = a3 ∧ 0 ≤ a1 ∧ a1 < s.2 6 2 ∧ 0 ≤ a2 ∧ a2 < s.2 6 2 ∧ 0 ≤ a3 ∧ a3 ≤ 2) ∧ 0 ≤ x5 ∧ x4 = it (nx (s.2 6) (s.2 7)) a2 x5.toNat ∧ WM (nx (s.2 6) (s.2 7)) f17 (s.2 6 2) a2 x5.toNat ∧ x5 + cnt f17 (-1) (s.2 6 2).toNat = s.2 6 2) (o_1 : (0 ≤ x4 ∧ x4 < 10000)) (c_2 : (f17 x4) = (-1)) : lex3 0 1 ((s.2 6 2 - (i32 (x5 + 1))).toNat) 0 1 ((s.2 6 2 - x5).toNat) := by
  obtain ⟨ht, ha⟩ := hp
  have hN := tOK_N ht
  have hg := nx_rng (s.2 6) (s.2 7)
  (try simp only [bI_0, bI_n, Classical.not_not] at *)
  (try have hq := ‹NXO (s.2 6) (s.2 7) _›)
  (try have hq := hI.2.1)
  (try have h4 := it_b hg (x := a2) (by omega) (by omega) x5.toNat)
  (try have hc := cnt_nn f17 (-1) (s.2 6 2).toNat)
  (try (have h5 := it_b hg (x := a1) (by omega) (by omega) x6.toNat; rw [← hI.2.2.2.2.2.1] at h5; have h6 := hI.2.2.2.2.1 x5 h5.1 h5.2; have h7 := hq x5 h5.1 h5.2))
  have h4 := it_b (nx_rng (s.2 6) (s.2 7)) (x := a2) (by omega) (by omega) x5.toNat
  have e9 := cnt_at (g := f17) (i := x4) (s.2 6 2).toNat (by omega) (by omega)
  rw [c_2] at e9
  have hc := cnt_nn (upI f17 x4 x5) (-1) (s.2 6 2).toNat
  rw [i32_id (by omega) (by omega)]
  unfold lex3
  omega
theorem vX3_join_11 (s : MS) (a1 : Int) (a2 : Int) (a3 : Int) (hp : tOK (s.2 6) ∧ aOK (s.2 6) (s.2 7)) (x3 : Int) (x5 : Int) (x6 : Int) (f11 : Int → Int) (f12 : Int → Int) (f13 : Int → Int) (f14 : Int → Int) (f15 : Int → Int) (f16 : Int → Int) (f17 : Int → Int) (f18 : Int → Int) (f19 : Int → Int) (k0 : Int) (k25 : Int) (k33 : Int) (k34 : Int) (hI : k0 = 0 ∧ NXO (s.2 6) (s.2 7) f13 ∧ (x3 = a3 ∧ 0 ≤ a1 ∧ a1 < s.2 6 2 ∧ 0 ≤ a2 ∧ a2 < s.2 6 2 ∧ 0 ≤ a3 ∧ a3 ≤ 2) ∧ (0 ≤ x6 ∧ x6 ≤ s.2 6 2 + 1) ∧ (∀ w : Int, 0 ≤ w → w < s.2 6 2 → (f17 w ≠ -1 → orb (nx (s.2 6) (s.2 7)) a2 w ∧ f17 w = idx (nx (s.2 6) (s.2 7)) a2 w) ∧ (f17 w = -1 → ¬ orb (nx (s.2 6) (s.2 7)) a2 w)) ∧ x5 = it (nx (s.2 6) (s.2 7)) a1 x6.toNat ∧ ∀ j : Int, 0 ≤ j → j < x6 → ¬ orb (nx (s.2 6) (s.2 7)) a2 (it (nx (s.2 6) (s.2 7)) a1 j.toNat)) (c_1 : (s.2 6 2) < x6) : k0 = (0) := by
  obtain ⟨ht, ha⟩ := hp
  have hN := tOK_N ht
  have hg := nx_rng (s.2 6) (s.2 7)
  (try simp only [bI_0, bI_n, Classical.not_not] at *)
  (try have hq := ‹NXO (s.2 6) (s.2 7) _›)
  (try have hq := hI.2.1)
  (try have h4 := it_b hg (x := a2) (by omega) (by omega) x5.toNat)
  (try have hc := cnt_nn f17 (-1) (s.2 6 2).toNat)
  (try (have h5 := it_b hg (x := a1) (by omega) (by omega) x6.toNat; rw [← hI.2.2.2.2.2.1] at h5; have h6 := hI.2.2.2.2.1 x5 h5.1 h5.2; have h7 := hq x5 h5.1 h5.2))
  (try unfold lex3)
  (try simp only [bI_0, bI_n, Classical.not_not] at *)
  (try simp (disch := omega) only [i32_id] at *)
  first | done | omega | ((repeat' (with_reducible apply And.intro)) <;> first | assumption | rfl | omega | (exact hI.1) | (exact hI.2.1) | (exact hq) | (exact hI.2.2.2.2.1) | (unfold rJoin; rw [if_neg (by omega)]) | (exact hI.2.2.1.2.1) | (exact hI.2.2.1.1) | (intro z h0 h1; omega) | (exact WM_0 (fun w a b => hI.2.2.2.2 w a (by omega))) | (rw [cnt_all _ (fun i a b => hI.2.2.2.2 i a (by omega))]; omega) | (exact upto_s (p := fun z v => v = -1) hI.2.2.2.2 rfl) | (rw [hI.2.2.2.2.1]; omega) | (have e9 := hI.2.2.2.2.1; rw [e9] at c_2; exact WM_e hg (by omega) (by omega) hI.2.2.2.2.2.1 c_2) | (rw [hI.2.2.2.2.1, hq _ h4.1 h4.2, show (x5 + 1).toNat = x5.toNat + 1 by omega]; rfl) | (rw [show (x5 + 1).toNat = x5.toNat + 1 by omega]; have e9 := WM_s hI.2.2.2.2.2.1 (by rw [← hI.2.2.2.2.1]; assumption); rw [← hI.2.2.2.2.1, show ((x5.toNat : Nat) : Int) = x5 by omega] at e9; exact e9) | (have e9 := cnt_upd (g := f17) (i := x4) (x := x5) (v := -1) (n := (s.2 6 2).toNat) (by omega) (by omega); rw [if_pos c_2, if_neg (by omega)] at e9; omega) | (have e9 := cnt_at (g := f17) (i := x4) (s.2 6 2).toNat (by omega) (by omega); rw [c_2] at e9; omega) | (rw [h7, hI.2.2.2.2.2.1, show (x6 + 1).toNat = x6.toNat + 1 by omega]; rfl) | (intro j h0 h1; by_cases e9 : j = x6; (focus (rw [e9, ← hI.2.2.2.2.2.1]; exact h6.2 c_3)); (focus (exact hI.2.2.2.2.2.2 j h0 (by omega)))) | (unfold rJoin; rw [if_pos (by omega), if_pos (join_no (fun j a b => hI.2.2.2.2.2.2 j a (by omega)))]) | (have ej := join_at (N := s.2 6 2) hI.2.2.2.1.1 (by omega) (by rw [← hI.2.2.2.2.2.1]; exact (h6.1 c_3).1) hI.2.2.2.2.2.2; unfold rJoin; rw [if_pos (by omega), ej, if_neg (by omega), ← hI.2.2.2.2.2.1]; first | rw [if_pos (by omega)] | rw [if_neg (by omega), if_pos (by omega)] | (rw [if_neg (by omega), if_neg (by omega)]; exact (h6.1 c_3).2)) | grind [upI])
theorem vX3_join_12 (s : MS) (a1 : Int) (a2 : Int) (a3 : Int) (hp : tOK (s.2 6) ∧ aOK (s.2 6) (s.2 7)) (x3 : Int) (x5 : Int) (x6 : Int) (f11 : Int → Int) (f12 : Int → Int) (f13 : Int → Int) (f14 : Int → Int) (f15 : Int → Int) (f16 : Int → Int) (f17 : Int → Int) (f18 : Int → Int) (f19 : Int → Int) (k0 : Int) (k25 : Int) (k33 : Int) (k34 : Int) (hI : k0 = 0 ∧ NXO (s.2 6) (s.2 7) f13 ∧ (x3 = a3 ∧ 0 ≤ a1 ∧ a1 < s.2 6 2 ∧ 0 ≤ a2 ∧ a2 < s.2 6 2 ∧ 0 ≤ a3 ∧ a3 ≤ 2) ∧ (0 ≤ x6 ∧ x6 ≤ s.2 6 2 + 1) ∧ (∀ w : Int, 0 ≤ w → w < s.2 6 2 → (f17 w ≠ -1 → orb (nx (s.2 6) (s.2 7)) a2 w ∧ f17 w = idx (nx (s.2 6) (s.2 7)) a2 w) ∧ (f17 w = -1 → ¬ orb (nx (s.2 6) (s.2 7)) a2 w)) ∧ x5 = it (nx (s.2 6) (s.2 7)) a1 x6.toNat ∧ ∀ j : Int, 0 ≤ j → j < x6 → ¬ orb (nx (s.2 6) (s.2 7)) a2 (it (nx (s.2 6) (s.2 7)) a1 j.toNat)) (c_1 : (s.2 6 2) < x6) : (-1) = (rJoin (s.2 6) (s.2 7) a1 a2 a3) := by
  obtain ⟨ht, ha⟩ := hp
  have hN := tOK_N ht
  have hg := nx_rng (s.2 6) (s.2 7)
  (try simp only [bI_0, bI_n, Classical.not_not] at *)
  (try have hq := ‹NXO (s.2 6) (s.2 7) _›)
  (try have hq := hI.2.1)
  (try have h4 := it_b hg (x := a2) (by omega) (by omega) x5.toNat)
  (try have hc := cnt_nn f17 (-1) (s.2 6 2).toNat)
  (try (have h5 := it_b hg (x := a1) (by omega) (by omega) x6.toNat; rw [← hI.2.2.2.2.2.1] at h5; have h6 := hI.2.2.2.2.1 x5 h5.1 h5.2; have h7 := hq x5 h5.1 h5.2))
  (try unfold lex3)
  (try simp only [bI_0, bI_n, Classical.not_not] at *)
  (try simp (disch := omega) only [i32_id] at *)
  first | done | omega | ((repeat' (with_reducible apply And.intro)) <;> first | assumption | rfl | omega | (exact hI.1) | (exact hI.2.1) | (exact hq) | (exact hI.2.2.2.2.1) | (unfold rJoin; rw [if_neg (by omega)]) | (exact hI.2.2.1.2.1) | (exact hI.2.2.1.1) | (intro z h0 h1; omega) | (exact WM_0 (fun w a b => hI.2.2.2.2 w a (by omega))) | (rw [cnt_all _ (fun i a b => hI.2.2.2.2 i a (by omega))]; omega) | (exact upto_s (p := fun z v => v = -1) hI.2.2.2.2 rfl) | (rw [hI.2.2.2.2.1]; omega) | (have e9 := hI.2.2.2.2.1; rw [e9] at c_2; exact WM_e hg (by omega) (by omega) hI.2.2.2.2.2.1 c_2) | (rw [hI.2.2.2.2.1, hq _ h4.1 h4.2, show (x5 + 1).toNat = x5.toNat + 1 by omega]; rfl) | (rw [show (x5 + 1).toNat = x5.toNat + 1 by omega]; have e9 := WM_s hI.2.2.2.2.2.1 (by rw [← hI.2.2.2.2.1]; assumption); rw [← hI.2.2.2.2.1, show ((x5.toNat : Nat) : Int) = x5 by omega] at e9; exact e9) | (have e9 := cnt_upd (g := f17) (i := x4) (x := x5) (v := -1) (n := (s.2 6 2).toNat) (by omega) (by omega); rw [if_pos c_2, if_neg (by omega)] at e9; omega) | (have e9 := cnt_at (g := f17) (i := x4) (s.2 6 2).toNat (by omega) (by omega); rw [c_2] at e9; omega) | (rw [h7, hI.2.2.2.2.2.1, show (x6 + 1).toNat = x6.toNat + 1 by omega]; rfl) | (intro j h0 h1; by_cases e9 : j = x6; (focus (rw [e9, ← hI.2.2.2.2.2.1]; exact h6.2 c_3)); (focus (exact hI.2.2.2.2.2.2 j h0 (by omega)))) | (unfold rJoin; rw [if_pos (by omega), if_pos (join_no (fun j a b => hI.2.2.2.2.2.2 j a (by omega)))]) | (have ej := join_at (N := s.2 6 2) hI.2.2.2.1.1 (by omega) (by rw [← hI.2.2.2.2.2.1]; exact (h6.1 c_3).1) hI.2.2.2.2.2.2; unfold rJoin; rw [if_pos (by omega), ej, if_neg (by omega), ← hI.2.2.2.2.2.1]; first | rw [if_pos (by omega)] | rw [if_neg (by omega), if_pos (by omega)] | (rw [if_neg (by omega), if_neg (by omega)]; exact (h6.1 c_3).2)) | grind [upI])
theorem vX3_join_13 (s : MS) (a1 : Int) (a2 : Int) (a3 : Int) (hp : tOK (s.2 6) ∧ aOK (s.2 6) (s.2 7)) (x3 : Int) (x5 : Int) (x6 : Int) (f11 : Int → Int) (f12 : Int → Int) (f13 : Int → Int) (f14 : Int → Int) (f15 : Int → Int) (f16 : Int → Int) (f17 : Int → Int) (f18 : Int → Int) (f19 : Int → Int) (k0 : Int) (k25 : Int) (k33 : Int) (k34 : Int) (hI : k0 = 0 ∧ NXO (s.2 6) (s.2 7) f13 ∧ (x3 = a3 ∧ 0 ≤ a1 ∧ a1 < s.2 6 2 ∧ 0 ≤ a2 ∧ a2 < s.2 6 2 ∧ 0 ≤ a3 ∧ a3 ≤ 2) ∧ (0 ≤ x6 ∧ x6 ≤ s.2 6 2 + 1) ∧ (∀ w : Int, 0 ≤ w → w < s.2 6 2 → (f17 w ≠ -1 → orb (nx (s.2 6) (s.2 7)) a2 w ∧ f17 w = idx (nx (s.2 6) (s.2 7)) a2 w) ∧ (f17 w = -1 → ¬ orb (nx (s.2 6) (s.2 7)) a2 w)) ∧ x5 = it (nx (s.2 6) (s.2 7)) a1 x6.toNat ∧ ∀ j : Int, 0 ≤ j → j < x6 → ¬ orb (nx (s.2 6) (s.2 7)) a2 (it (nx (s.2 6) (s.2 7)) a1 j.toNat)) (c_1 : ¬ (s.2 6 2) < x6) : (0 ≤ x5 ∧ x5 < 10000) := by
  obtain ⟨ht, ha⟩ := hp
  have hN := tOK_N ht
  have hg := nx_rng (s.2 6) (s.2 7)
  (try simp only [bI_0, bI_n, Classical.not_not] at *)
  (try have hq := ‹NXO (s.2 6) (s.2 7) _›)
  (try have hq := hI.2.1)
  (try have h4 := it_b hg (x := a2) (by omega) (by omega) x5.toNat)
  (try have hc := cnt_nn f17 (-1) (s.2 6 2).toNat)
  (try (have h5 := it_b hg (x := a1) (by omega) (by omega) x6.toNat; rw [← hI.2.2.2.2.2.1] at h5; have h6 := hI.2.2.2.2.1 x5 h5.1 h5.2; have h7 := hq x5 h5.1 h5.2))
  (try unfold lex3)
  (try simp only [bI_0, bI_n, Classical.not_not] at *)
  (try simp (disch := omega) only [i32_id] at *)
  first | done | omega | ((repeat' (with_reducible apply And.intro)) <;> first | assumption | rfl | omega | (exact hI.1) | (exact hI.2.1) | (exact hq) | (exact hI.2.2.2.2.1) | (unfold rJoin; rw [if_neg (by omega)]) | (exact hI.2.2.1.2.1) | (exact hI.2.2.1.1) | (intro z h0 h1; omega) | (exact WM_0 (fun w a b => hI.2.2.2.2 w a (by omega))) | (rw [cnt_all _ (fun i a b => hI.2.2.2.2 i a (by omega))]; omega) | (exact upto_s (p := fun z v => v = -1) hI.2.2.2.2 rfl) | (rw [hI.2.2.2.2.1]; omega) | (have e9 := hI.2.2.2.2.1; rw [e9] at c_2; exact WM_e hg (by omega) (by omega) hI.2.2.2.2.2.1 c_2) | (rw [hI.2.2.2.2.1, hq _ h4.1 h4.2, show (x5 + 1).toNat = x5.toNat + 1 by omega]; rfl) | (rw [show (x5 + 1).toNat = x5.toNat + 1 by omega]; have e9 := WM_s hI.2.2.2.2.2.1 (by rw [← hI.2.2.2.2.1]; assumption); rw [← hI.2.2.2.2.1, show ((x5.toNat : Nat) : Int) = x5 by omega] at e9; exact e9) | (have e9 := cnt_upd (g := f17) (i := x4) (x := x5) (v := -1) (n := (s.2 6 2).toNat) (by omega) (by omega); rw [if_pos c_2, if_neg (by omega)] at e9; omega) | (have e9 := cnt_at (g := f17) (i := x4) (s.2 6 2).toNat (by omega) (by omega); rw [c_2] at e9; omega) | (rw [h7, hI.2.2.2.2.2.1, show (x6 + 1).toNat = x6.toNat + 1 by omega]; rfl) | (intro j h0 h1; by_cases e9 : j = x6; (focus (rw [e9, ← hI.2.2.2.2.2.1]; exact h6.2 c_3)); (focus (exact hI.2.2.2.2.2.2 j h0 (by omega)))) | (unfold rJoin; rw [if_pos (by omega), if_pos (join_no (fun j a b => hI.2.2.2.2.2.2 j a (by omega)))]) | (have ej := join_at (N := s.2 6 2) hI.2.2.2.1.1 (by omega) (by rw [← hI.2.2.2.2.2.1]; exact (h6.1 c_3).1) hI.2.2.2.2.2.2; unfold rJoin; rw [if_pos (by omega), ej, if_neg (by omega), ← hI.2.2.2.2.2.1]; first | rw [if_pos (by omega)] | rw [if_neg (by omega), if_pos (by omega)] | (rw [if_neg (by omega), if_neg (by omega)]; exact (h6.1 c_3).2)) | grind [upI])
theorem vX3_join_14 (s : MS) (a1 : Int) (a2 : Int) (a3 : Int) (hp : tOK (s.2 6) ∧ aOK (s.2 6) (s.2 7)) (x3 : Int) (x5 : Int) (x6 : Int) (f11 : Int → Int) (f12 : Int → Int) (f13 : Int → Int) (f14 : Int → Int) (f15 : Int → Int) (f16 : Int → Int) (f17 : Int → Int) (f18 : Int → Int) (f19 : Int → Int) (k0 : Int) (k25 : Int) (k33 : Int) (k34 : Int) (hI : k0 = 0 ∧ NXO (s.2 6) (s.2 7) f13 ∧ (x3 = a3 ∧ 0 ≤ a1 ∧ a1 < s.2 6 2 ∧ 0 ≤ a2 ∧ a2 < s.2 6 2 ∧ 0 ≤ a3 ∧ a3 ≤ 2) ∧ (0 ≤ x6 ∧ x6 ≤ s.2 6 2 + 1) ∧ (∀ w : Int, 0 ≤ w → w < s.2 6 2 → (f17 w ≠ -1 → orb (nx (s.2 6) (s.2 7)) a2 w ∧ f17 w = idx (nx (s.2 6) (s.2 7)) a2 w) ∧ (f17 w = -1 → ¬ orb (nx (s.2 6) (s.2 7)) a2 w)) ∧ x5 = it (nx (s.2 6) (s.2 7)) a1 x6.toNat ∧ ∀ j : Int, 0 ≤ j → j < x6 → ¬ orb (nx (s.2 6) (s.2 7)) a2 (it (nx (s.2 6) (s.2 7)) a1 j.toNat)) (c_1 : ¬ (s.2 6 2) < x6) (o_2 : (0 ≤ x5 ∧ x5 < 10000)) (c_3 : (f17 x5) = (-1)) : k0 = 0 ∧ NXO (s.2 6) (s.2 7) f13 ∧ (x3 = a3 ∧ 0 ≤ a1 ∧ a1 < s.2 6 2 ∧ 0 ≤ a2 ∧ a2 < s.2 6 2 ∧ 0 ≤ a3 ∧ a3 ≤ 2) ∧ (0 ≤ (i32 (x6 + 1)) ∧ (i32 (x6 + 1)) ≤ s.2 6 2 + 1) ∧ (∀ w : Int, 0 ≤ w → w < s.2 6 2 → (f17 w ≠ -1 → orb (nx (s.2 6) (s.2 7)) a2 w ∧ f17 w = idx (nx (s.2 6) (s.2 7)) a2 w) ∧ (f17 w = -1 → ¬ orb (nx (s.2 6) (s.2 7)) a2 w)) ∧ (f13 x5) = it (nx (s.2 6) (s.2 7)) a1 (i32 (x6 + 1)).toNat ∧ ∀ j : Int, 0 ≤ j → j < (i32 (x6 + 1)) → ¬ orb (nx (s.2 6) (s.2 7)) a2 (it (nx (s.2 6) (s.2 7)) a1 j.toNat) := by
  obtain ⟨ht, ha⟩ := hp
  have hN := tOK_N ht
  have hg := nx_rng (s.2 6) (s.2 7)
  (try simp only [bI_0, bI_n, Classical.not_not] at *)
  (try have hq := ‹NXO (s.2 6) (s.2 7) _›)
  (try have hq := hI.2.1)
  (try have h4 := it_b hg (x := a2) (by omega) (by omega) x5.toNat)
  (try have hc := cnt_nn f17 (-1) (s.2 6 2).toNat)
  (try (have h5 := it_b hg (x := a1) (by omega) (by omega) x6.toNat; rw [← hI.2.2.2.2.2.1] at h5; have h6 := hI.2.2.2.2.1 x5 h5.1 h5.2; have h7 := hq x5 h5.1 h5.2))
  (try unfold lex3)
  (try simp only [bI_0, bI_n, Classical.not_not] at *)
  (try simp (disch := omega) only [i32_id] at *)
  first | done | omega | ((repeat' (with_reducible apply And.intro)) <;> first | assumption | rfl | omega | (exact hI.1) | (exact hI.2.1) | (exact hq) | (exact hI.2.2.2.2.1) | (unfold rJoin; rw [if_neg (by omega)]) | (exact hI.2.2.1.2.1) | (exact hI.2.2.1.1) | (intro z h0 h1; omega) | (exact WM_0 (fun w a b => hI.2.2.2.2 w a (by omega))) | (rw [cnt_all _ (fun i a b => hI.2.2.2.2 i a (by omega))]; omega) | (exact upto_s (p := fun z v => v = -1) hI.2.2.2.2 rfl) | (rw [hI.2.2.2.2.1]; omega) | (have e9 := hI.2.2.2.2.1; rw [e9] at c_2; exact WM_e hg (by omega) (by omega) hI.2.2.2.2.2.1 c_2) | (rw [hI.2.2.2.2.1, hq _ h4.1 h4.2, show (x5 + 1).toNat = x5.toNat + 1 by omega]; rfl) | (rw [show (x5 + 1).toNat = x5.toNat + 1 by omega]; have e9 := WM_s hI.2.2.2.2.2.1 (by rw [← hI.2.2.2.2.1]; assumption); rw [← hI.2.2.2.2.1, show ((x5.toNat : Nat) : Int) = x5 by omega] at e9; exact e9) | (have e9 := cnt_upd (g := f17) (i := x4) (x := x5) (v := -1) (n := (s.2 6 2).toNat) (by omega) (by omega); rw [if_pos c_2, if_neg (by omega)] at e9; omega) | (have e9 := cnt_at (g := f17) (i := x4) (s.2 6 2).toNat (by omega) (by omega); rw [c_2] at e9; omega) | (rw [h7, hI.2.2.2.2.2.1, show (x6 + 1).toNat = x6.toNat + 1 by omega]; rfl) | (intro j h0 h1; by_cases e9 : j = x6; (focus (rw [e9, ← hI.2.2.2.2.2.1]; exact h6.2 c_3)); (focus (exact hI.2.2.2.2.2.2 j h0 (by omega)))) | (unfold rJoin; rw [if_pos (by omega), if_pos (join_no (fun j a b => hI.2.2.2.2.2.2 j a (by omega)))]) | (have ej := join_at (N := s.2 6 2) hI.2.2.2.1.1 (by omega) (by rw [← hI.2.2.2.2.2.1]; exact (h6.1 c_3).1) hI.2.2.2.2.2.2; unfold rJoin; rw [if_pos (by omega), ej, if_neg (by omega), ← hI.2.2.2.2.2.1]; first | rw [if_pos (by omega)] | rw [if_neg (by omega), if_pos (by omega)] | (rw [if_neg (by omega), if_neg (by omega)]; exact (h6.1 c_3).2)) | grind [upI])
theorem vX3_join_15 (s : MS) (a1 : Int) (a2 : Int) (a3 : Int) (hp : tOK (s.2 6) ∧ aOK (s.2 6) (s.2 7)) (x3 : Int) (x5 : Int) (x6 : Int) (f11 : Int → Int) (f12 : Int → Int) (f13 : Int → Int) (f14 : Int → Int) (f15 : Int → Int) (f16 : Int → Int) (f17 : Int → Int) (f18 : Int → Int) (f19 : Int → Int) (k0 : Int) (k25 : Int) (k33 : Int) (k34 : Int) (hI : k0 = 0 ∧ NXO (s.2 6) (s.2 7) f13 ∧ (x3 = a3 ∧ 0 ≤ a1 ∧ a1 < s.2 6 2 ∧ 0 ≤ a2 ∧ a2 < s.2 6 2 ∧ 0 ≤ a3 ∧ a3 ≤ 2) ∧ (0 ≤ x6 ∧ x6 ≤ s.2 6 2 + 1) ∧ (∀ w : Int, 0 ≤ w → w < s.2 6 2 → (f17 w ≠ -1 → orb (nx (s.2 6) (s.2 7)) a2 w ∧ f17 w = idx (nx (s.2 6) (s.2 7)) a2 w) ∧ (f17 w = -1 → ¬ orb (nx (s.2 6) (s.2 7)) a2 w)) ∧ x5 = it (nx (s.2 6) (s.2 7)) a1 x6.toNat ∧ ∀ j : Int, 0 ≤ j → j < x6 → ¬ orb (nx (s.2 6) (s.2 7)) a2 (it (nx (s.2 6) (s.2 7)) a1 j.toNat)) (c_1 : ¬ (s.2 6 2) < x6) (o_2 : (0 ≤ x5 ∧ x5 < 10000)) (c_3 : (f17 x5) = (-1)) : lex3 0 0 ((s.2 6 2 + 1 - (i32 (x6 + 1))).toNat) 0 0 ((s.2 6 2 + 1 - x6).toNat) := by
  obtain ⟨ht, ha⟩ := hp
  have hN := tOK_N ht
  have hg := nx_rng (s.2 6) (s.2 7)
  (try simp only [bI_0, bI_n, Classical.not_not] at *)
  (try have hq := ‹NXO (s.2 6) (s.2 7) _›)
  (try have hq := hI.2.1)
  (try have h4 := it_b hg (x := a2) (by omega) (by omega) x5.toNat)
  (try have hc := cnt_nn f17 (-1) (s.2 6 2).toNat)
  (try (have h5 := it_b hg (x := a1) (by omega) (by omega) x6.toNat; rw [← hI.2.2.2.2.2.1] at h5; have h6 := hI.2.2.2.2.1 x5 h5.1 h5.2; have h7 := hq x5 h5.1 h5.2))
  (try unfold lex3)
  (try simp only [bI_0, bI_n, Classical.not_not] at *)
  (try simp (disch := omega) only [i32_id] at *)
  first | done | omega | ((repeat' (with_reducible apply And.intro)) <;> first | assumption | rfl | omega | (exact hI.1) | (exact hI.2.1) | (exact hq) | (exact hI.2.2.2.2.1) | (unfold rJoin; rw [if_neg (by omega)]) | (exact hI.2.2.1.2.1) | (exact hI.2.2.1.1) | (intro z h0 h1; omega) | (exact WM_0 (fun w a b => hI.2.2.2.2 w a (by omega))) | (rw [cnt_all _ (fun i a b => hI.2.2.2.2 i a (by omega))]; omega) | (exact upto_s (p := fun z v => v = -1) hI.2.2.2.2 rfl) | (rw [hI.2.2.2.2.1]; omega) | (have e9 := hI.2.2.2.2.1; rw [e9] at c_2; exact WM_e hg (by omega) (by omega) hI.2.2.2.2.2.1 c_2) | (rw [hI.2.2.2.2.1, hq _ h4.1 h4.2, show (x5 + 1).toNat = x5.toNat + 1 by omega]; rfl) | (rw [show (x5 + 1).toNat = x5.toNat + 1 by omega]; have e9 := WM_s hI.2.2.2.2.2.1 (by rw [← hI.2.2.2.2.1]; assumption); rw [← hI.2.2.2.2.1, show ((x5.toNat : Nat) : Int) = x5 by omega] at e9; exact e9) | (have e9 := cnt_upd (g := f17) (i := x4) (x := x5) (v := -1) (n := (s.2 6 2).toNat) (by omega) (by omega); rw [if_pos c_2, if_neg (by omega)] at e9; omega) | (have e9 := cnt_at (g := f17) (i := x4) (s.2 6 2).toNat (by omega) (by omega); rw [c_2] at e9; omega) | (rw [h7, hI.2.2.2.2.2.1, show (x6 + 1).toNat = x6.toNat + 1 by omega]; rfl) | (intro j h0 h1; by_cases e9 : j = x6; (focus (rw [e9, ← hI.2.2.2.2.2.1]; exact h6.2 c_3)); (focus (exact hI.2.2.2.2.2.2 j h0 (by omega)))) | (unfold rJoin; rw [if_pos (by omega), if_pos (join_no (fun j a b => hI.2.2.2.2.2.2 j a (by omega)))]) | (have ej := join_at (N := s.2 6 2) hI.2.2.2.1.1 (by omega) (by rw [← hI.2.2.2.2.2.1]; exact (h6.1 c_3).1) hI.2.2.2.2.2.2; unfold rJoin; rw [if_pos (by omega), ej, if_neg (by omega), ← hI.2.2.2.2.2.1]; first | rw [if_pos (by omega)] | rw [if_neg (by omega), if_pos (by omega)] | (rw [if_neg (by omega), if_neg (by omega)]; exact (h6.1 c_3).2)) | grind [upI])
theorem vX3_join_16 (s : MS) (a1 : Int) (a2 : Int) (a3 : Int) (hp : tOK (s.2 6) ∧ aOK (s.2 6) (s.2 7)) (x3 : Int) (x5 : Int) (x6 : Int) (f11 : Int → Int) (f12 : Int → Int) (f13 : Int → Int) (f14 : Int → Int) (f15 : Int → Int) (f16 : Int → Int) (f17 : Int → Int) (f18 : Int → Int) (f19 : Int → Int) (k0 : Int) (k25 : Int) (k33 : Int) (k34 : Int) (hI : k0 = 0 ∧ NXO (s.2 6) (s.2 7) f13 ∧ (x3 = a3 ∧ 0 ≤ a1 ∧ a1 < s.2 6 2 ∧ 0 ≤ a2 ∧ a2 < s.2 6 2 ∧ 0 ≤ a3 ∧ a3 ≤ 2) ∧ (0 ≤ x6 ∧ x6 ≤ s.2 6 2 + 1) ∧ (∀ w : Int, 0 ≤ w → w < s.2 6 2 → (f17 w ≠ -1 → orb (nx (s.2 6) (s.2 7)) a2 w ∧ f17 w = idx (nx (s.2 6) (s.2 7)) a2 w) ∧ (f17 w = -1 → ¬ orb (nx (s.2 6) (s.2 7)) a2 w)) ∧ x5 = it (nx (s.2 6) (s.2 7)) a1 x6.toNat ∧ ∀ j : Int, 0 ≤ j → j < x6 → ¬ orb (nx (s.2 6) (s.2 7)) a2 (it (nx (s.2 6) (s.2 7)) a1 j.toNat)) (c_1 : ¬ (s.2 6 2) < x6) (o_2 : (0 ≤ x5 ∧ x5 < 10000)) (c_3 : ¬ (f17 x5) = (-1)) (c_4 : ¬ x3 = 0) (c_5 : ¬ x3 = 1) : k0 = (0) := by
  obtain ⟨ht, ha⟩ := hp
  have hN := tOK_N ht
  have hg := nx_rng (s.2 6) (s.2 7)
  (try simp only [bI_0, bI_n, Classical.not_not] at *)
  (try have hq := ‹NXO (s.2 6) (s.2 7) _›)
  (try have hq := hI.2.1)
  (try have h4 := it_b hg (x := a2) (by omega) (by omega) x5.toNat)
  (try have hc := cnt_nn f17 (-1) (s.2 6 2).toNat)
  (try (have h5 := it_b hg (x := a1) (by omega) (by omega) x6.toNat; rw [← hI.2.2.2.2.2.1] at h5; have h6 := hI.2.2.2.2.1 x5 h5.1 h5.2; have h7 := hq x5 h5.1 h5.2))
  (try unfold lex3)
  (try simp only [bI_0, bI_n, Classical.not_not] at *)
  (try simp (disch := omega) only [i32_id] at *)
  first | done | omega | ((repeat' (with_reducible apply And.intro)) <;> first | assumption | rfl | omega | (exact hI.1) | (exact hI.2.1) | (exact hq) | (exact hI.2.2.2.2.1) | (unfold rJoin; rw [if_neg (by omega)]) | (exact hI.2.2.1.2.1) | (exact hI.2.2.1.1) | (intro z h0 h1; omega) | (exact WM_0 (fun w a b => hI.2.2.2.2 w a (by omega))) | (rw [cnt_all _ (fun i a b => hI.2.2.2.2 i a (by omega))]; omega) | (exact upto_s (p := fun z v => v = -1) hI.2.2.2.2 rfl) | (rw [hI.2.2.2.2.1]; omega) | (have e9 := hI.2.2.2.2.1; rw [e9] at c_2; exact WM_e hg (by omega) (by omega) hI.2.2.2.2.2.1 c_2) | (rw [hI.2.2.2.2.1, hq _ h4.1 h4.2, show (x5 + 1).toNat = x5.toNat + 1 by omega]; rfl) | (rw [show (x5 + 1).toNat = x5.toNat + 1 by omega]; have e9 := WM_s hI.2.2.2.2.2.1 (by rw [← hI.2.2.2.2.1]; assumption); rw [← hI.2.2.2.2.1, show ((x5.toNat : Nat) : Int) = x5 by omega] at e9; exact e9) | (have e9 := cnt_upd (g := f17) (i := x4) (x := x5) (v := -1) (n := (s.2 6 2).toNat) (by omega) (by omega); rw [if_pos c_2, if_neg (by omega)] at e9; omega) | (have e9 := cnt_at (g := f17) (i := x4) (s.2 6 2).toNat (by omega) (by omega); rw [c_2] at e9; omega) | (rw [h7, hI.2.2.2.2.2.1, show (x6 + 1).toNat = x6.toNat + 1 by omega]; rfl) | (intro j h0 h1; by_cases e9 : j = x6; (focus (rw [e9, ← hI.2.2.2.2.2.1]; exact h6.2 c_3)); (focus (exact hI.2.2.2.2.2.2 j h0 (by omega)))) | (unfold rJoin; rw [if_pos (by omega), if_pos (join_no (fun j a b => hI.2.2.2.2.2.2 j a (by omega)))]) | (have ej := join_at (N := s.2 6 2) hI.2.2.2.1.1 (by omega) (by rw [← hI.2.2.2.2.2.1]; exact (h6.1 c_3).1) hI.2.2.2.2.2.2; unfold rJoin; rw [if_pos (by omega), ej, if_neg (by omega), ← hI.2.2.2.2.2.1]; first | rw [if_pos (by omega)] | rw [if_neg (by omega), if_pos (by omega)] | (rw [if_neg (by omega), if_neg (by omega)]; exact (h6.1 c_3).2)) | grind [upI])
theorem vX3_join_17 (s : MS) (a1 : Int) (a2 : Int) (a3 : Int) (hp : tOK (s.2 6) ∧ aOK (s.2 6) (s.2 7)) (x3 : Int) (x5 : Int) (x6 : Int) (f11 : Int → Int) (f12 : Int → Int) (f13 : Int → Int) (f14 : Int → Int) (f15 : Int → Int) (f16 : Int → Int) (f17 : Int → Int) (f18 : Int → Int) (f19 : Int → Int) (k0 : Int) (k25 : Int) (k33 : Int) (k34 : Int) (hI : k0 = 0 ∧ NXO (s.2 6) (s.2 7) f13 ∧ (x3 = a3 ∧ 0 ≤ a1 ∧ a1 < s.2 6 2 ∧ 0 ≤ a2 ∧ a2 < s.2 6 2 ∧ 0 ≤ a3 ∧ a3 ≤ 2) ∧ (0 ≤ x6 ∧ x6 ≤ s.2 6 2 + 1) ∧ (∀ w : Int, 0 ≤ w → w < s.2 6 2 → (f17 w ≠ -1 → orb (nx (s.2 6) (s.2 7)) a2 w ∧ f17 w = idx (nx (s.2 6) (s.2 7)) a2 w) ∧ (f17 w = -1 → ¬ orb (nx (s.2 6) (s.2 7)) a2 w)) ∧ x5 = it (nx (s.2 6) (s.2 7)) a1 x6.toNat ∧ ∀ j : Int, 0 ≤ j → j < x6 → ¬ orb (nx (s.2 6) (s.2 7)) a2 (it (nx (s.2 6) (s.2 7)) a1 j.toNat)) (c_1 : ¬ (s.2 6 2) < x6) (o_2 : (0 ≤ x5 ∧ x5 < 10000)) (c_3 : ¬ (f17 x5) = (-1)) (c_4 : ¬ x3 = 0) (c_5 : ¬ x3 = 1) : (f17 x5) = (rJoin (s.2 6) (s.2 7) a1 a2 a3) := by
  obtain ⟨ht, ha⟩ := hp
  have hN := tOK_N ht
  have hg := nx_rng (s.2 6) (s.2 7)
  (try simp only [bI_0, bI_n, Classical.not_not] at *)
  (try have hq := ‹NXO (s.2 6) (s.2 7) _›)
  (try have hq := hI.2.1)
  (try have h4 := it_b hg (x := a2) (by omega) (by omega) x5.toNat)
  (try have hc := cnt_nn f17 (-1) (s.2 6 2).toNat)
  (try (have h5 := it_b hg (x := a1) (by omega) (by omega) x6.toNat; rw [← hI.2.2.2.2.2.1] at h5; have h6 := hI.2.2.2.2.1 x5 h5.1 h5.2; have h7 := hq x5 h5.1 h5.2))
  (try unfold lex3)
  (try simp only [bI_0, bI_n, Classical.not_not] at *)
  (try simp (disch := omega) only [i32_id] at *)
  first | done | omega | ((repeat' (with_reducible apply And.intro)) <;> first | assumption | rfl | omega | (exact hI.1) | (exact hI.2.1) | (exact hq) | (exact hI.2.2.2.2.1) | (unfold rJoin; rw [if_neg (by omega)]) | (exact hI.2.2.1.2.1) | (exact hI.2.2.1.1) | (intro z h0 h1; omega) | (exact WM_0 (fun w a b => hI.2.2.2.2 w a (by omega))) | (rw [cnt_all _ (fun i a b => hI.2.2.2.2 i a (by omega))]; omega) | (exact upto_s (p := fun z v => v = -1) hI.2.2.2.2 rfl) | (rw [hI.2.2.2.2.1]; omega) | (have e9 := hI.2.2.2.2.1; rw [e9] at c_2; exact WM_e hg (by omega) (by omega) hI.2.2.2.2.2.1 c_2) | (rw [hI.2.2.2.2.1, hq _ h4.1 h4.2, show (x5 + 1).toNat = x5.toNat + 1 by omega]; rfl) | (rw [show (x5 + 1).toNat = x5.toNat + 1 by omega]; have e9 := WM_s hI.2.2.2.2.2.1 (by rw [← hI.2.2.2.2.1]; assumption); rw [← hI.2.2.2.2.1, show ((x5.toNat : Nat) : Int) = x5 by omega] at e9; exact e9) | (have e9 := cnt_upd (g := f17) (i := x4) (x := x5) (v := -1) (n := (s.2 6 2).toNat) (by omega) (by omega); rw [if_pos c_2, if_neg (by omega)] at e9; omega) | (have e9 := cnt_at (g := f17) (i := x4) (s.2 6 2).toNat (by omega) (by omega); rw [c_2] at e9; omega) | (rw [h7, hI.2.2.2.2.2.1, show (x6 + 1).toNat = x6.toNat + 1 by omega]; rfl) | (intro j h0 h1; by_cases e9 : j = x6; (focus (rw [e9, ← hI.2.2.2.2.2.1]; exact h6.2 c_3)); (focus (exact hI.2.2.2.2.2.2 j h0 (by omega)))) | (unfold rJoin; rw [if_pos (by omega), if_pos (join_no (fun j a b => hI.2.2.2.2.2.2 j a (by omega)))]) | (have ej := join_at (N := s.2 6 2) hI.2.2.2.1.1 (by omega) (by rw [← hI.2.2.2.2.2.1]; exact (h6.1 c_3).1) hI.2.2.2.2.2.2; unfold rJoin; rw [if_pos (by omega), ej, if_neg (by omega), ← hI.2.2.2.2.2.1]; first | rw [if_pos (by omega)] | rw [if_neg (by omega), if_pos (by omega)] | (rw [if_neg (by omega), if_neg (by omega)]; exact (h6.1 c_3).2)) | grind [upI])
theorem vX3_join_18 (s : MS) (a1 : Int) (a2 : Int) (a3 : Int) (hp : tOK (s.2 6) ∧ aOK (s.2 6) (s.2 7)) (x3 : Int) (x5 : Int) (x6 : Int) (f11 : Int → Int) (f12 : Int → Int) (f13 : Int → Int) (f14 : Int → Int) (f15 : Int → Int) (f16 : Int → Int) (f17 : Int → Int) (f18 : Int → Int) (f19 : Int → Int) (k0 : Int) (k25 : Int) (k33 : Int) (k34 : Int) (hI : k0 = 0 ∧ NXO (s.2 6) (s.2 7) f13 ∧ (x3 = a3 ∧ 0 ≤ a1 ∧ a1 < s.2 6 2 ∧ 0 ≤ a2 ∧ a2 < s.2 6 2 ∧ 0 ≤ a3 ∧ a3 ≤ 2) ∧ (0 ≤ x6 ∧ x6 ≤ s.2 6 2 + 1) ∧ (∀ w : Int, 0 ≤ w → w < s.2 6 2 → (f17 w ≠ -1 → orb (nx (s.2 6) (s.2 7)) a2 w ∧ f17 w = idx (nx (s.2 6) (s.2 7)) a2 w) ∧ (f17 w = -1 → ¬ orb (nx (s.2 6) (s.2 7)) a2 w)) ∧ x5 = it (nx (s.2 6) (s.2 7)) a1 x6.toNat ∧ ∀ j : Int, 0 ≤ j → j < x6 → ¬ orb (nx (s.2 6) (s.2 7)) a2 (it (nx (s.2 6) (s.2 7)) a1 j.toNat)) (c_1 : ¬ (s.2 6 2) < x6) (o_2 : (0 ≤ x5 ∧ x5 < 10000)) (c_3 : ¬ (f17 x5) = (-1)) (c_4 : ¬ x3 = 0) (c_5 : x3 = 1) : k0 = (0) := by
  obtain ⟨ht, ha⟩ := hp
  have hN := tOK_N ht
  have hg := nx_rng (s.2 6) (s.2 7)
  (try simp only [bI_0, bI_n, Classical.not_not] at *)
  (try have hq := ‹NXO (s.2 6) (s.2 7) _›)
  (try have hq := hI.2.1)
  (try have h4 := it_b hg (x := a2) (by omega) (by omega) x5.toNat)
  (try have hc := cnt_nn f17 (-1) (s.2 6 2).toNat)
  (try (have h5 := it_b hg (x := a1) (by omega) (by omega) x6.toNat; rw [← hI.2.2.2.2.2.1] at h5; have h6 := hI.2.2.2.2.1 x5 h5.1 h5.2; have h7 := hq x5 h5.1 h5.2))
  (try unfold lex3)
  (try simp only [bI_0, bI_n, Classical.not_not] at *)
  (try simp (disch := omega) only [i32_id] at *)
  first | done | omega | ((repeat' (with_reducible apply And.intro)) <;> first | assumption | rfl | omega | (exact hI.1) | (exact hI.2.1) | (exact hq) | (exact hI.2.2.2.2.1) | (unfold rJoin; rw [if_neg (by omega)]) | (exact hI.2.2.1.2.1) | (exact hI.2.2.1.1) | (intro z h0 h1; omega) | (exact WM_0 (fun w a b => hI.2.2.2.2 w a (by omega))) | (rw [cnt_all _ (fun i a b => hI.2.2.2.2 i a (by omega))]; omega) | (exact upto_s (p := fun z v => v = -1) hI.2.2.2.2 rfl) | (rw [hI.2.2.2.2.1]; omega) | (have e9 := hI.2.2.2.2.1; rw [e9] at c_2; exact WM_e hg (by omega) (by omega) hI.2.2.2.2.2.1 c_2) | (rw [hI.2.2.2.2.1, hq _ h4.1 h4.2, show (x5 + 1).toNat = x5.toNat + 1 by omega]; rfl) | (rw [show (x5 + 1).toNat = x5.toNat + 1 by omega]; have e9 := WM_s hI.2.2.2.2.2.1 (by rw [← hI.2.2.2.2.1]; assumption); rw [← hI.2.2.2.2.1, show ((x5.toNat : Nat) : Int) = x5 by omega] at e9; exact e9) | (have e9 := cnt_upd (g := f17) (i := x4) (x := x5) (v := -1) (n := (s.2 6 2).toNat) (by omega) (by omega); rw [if_pos c_2, if_neg (by omega)] at e9; omega) | (have e9 := cnt_at (g := f17) (i := x4) (s.2 6 2).toNat (by omega) (by omega); rw [c_2] at e9; omega) | (rw [h7, hI.2.2.2.2.2.1, show (x6 + 1).toNat = x6.toNat + 1 by omega]; rfl) | (intro j h0 h1; by_cases e9 : j = x6; (focus (rw [e9, ← hI.2.2.2.2.2.1]; exact h6.2 c_3)); (focus (exact hI.2.2.2.2.2.2 j h0 (by omega)))) | (unfold rJoin; rw [if_pos (by omega), if_pos (join_no (fun j a b => hI.2.2.2.2.2.2 j a (by omega)))]) | (have ej := join_at (N := s.2 6 2) hI.2.2.2.1.1 (by omega) (by rw [← hI.2.2.2.2.2.1]; exact (h6.1 c_3).1) hI.2.2.2.2.2.2; unfold rJoin; rw [if_pos (by omega), ej, if_neg (by omega), ← hI.2.2.2.2.2.1]; first | rw [if_pos (by omega)] | rw [if_neg (by omega), if_pos (by omega)] | (rw [if_neg (by omega), if_neg (by omega)]; exact (h6.1 c_3).2)) | grind [upI])
theorem vX3_join_19 (s : MS) (a1 : Int) (a2 : Int) (a3 : Int) (hp : tOK (s.2 6) ∧ aOK (s.2 6) (s.2 7)) (x3 : Int) (x5 : Int) (x6 : Int) (f11 : Int → Int) (f12 : Int → Int) (f13 : Int → Int) (f14 : Int → Int) (f15 : Int → Int) (f16 : Int → Int) (f17 : Int → Int) (f18 : Int → Int) (f19 : Int → Int) (k0 : Int) (k25 : Int) (k33 : Int) (k34 : Int) (hI : k0 = 0 ∧ NXO (s.2 6) (s.2 7) f13 ∧ (x3 = a3 ∧ 0 ≤ a1 ∧ a1 < s.2 6 2 ∧ 0 ≤ a2 ∧ a2 < s.2 6 2 ∧ 0 ≤ a3 ∧ a3 ≤ 2) ∧ (0 ≤ x6 ∧ x6 ≤ s.2 6 2 + 1) ∧ (∀ w : Int, 0 ≤ w → w < s.2 6 2 → (f17 w ≠ -1 → orb (nx (s.2 6) (s.2 7)) a2 w ∧ f17 w = idx (nx (s.2 6) (s.2 7)) a2 w) ∧ (f17 w = -1 → ¬ orb (nx (s.2 6) (s.2 7)) a2 w)) ∧ x5 = it (nx (s.2 6) (s.2 7)) a1 x6.toNat ∧ ∀ j : Int, 0 ≤ j → j < x6 → ¬ orb (nx (s.2 6) (s.2 7)) a2 (it (nx (s.2 6) (s.2 7)) a1 j.toNat)) (c_1 : ¬ (s.2 6 2) < x6) (o_2 : (0 ≤ x5 ∧ x5 < 10000)) (c_3 : ¬ (f17 x5) = (-1)) (c_4 : ¬ x3 = 0) (c_5 : x3 = 1) : x6 = (rJoin (s.2 6) (s.2 7) a1 a2 a3) := by
  obtain ⟨ht, ha⟩ := hp
  have hN := tOK_N ht
  have hg := nx_rng (s.2 6) (s.2 7)
  (try simp only [bI_0, bI_n, Classical.not_not] at *)
  (try have hq := ‹NXO (s.2 6) (s.2 7) _›)
  (try have hq := hI.2.1)
  (try have h4 := it_b hg (x := a2) (by omega) (by omega) x5.toNat)
  (try have hc := cnt_nn f17 (-1) (s.2 6 2).toNat)
  (try (have h5 := it_b hg (x := a1) (by omega) (by omega) x6.toNat; rw [← hI.2.2.2.2.2.1] at h5; have h6 := hI.2.2.2.2.1 x5 h5.1 h5.2; have h7 := hq x5 h5.1 h5.2))
  (try unfold lex3)
  (try simp only [bI_0, bI_n, Classical.not_not] at *)
  (try simp (disch := omega) only [i32_id] at *)
  first | done | omega | ((repeat' (with_reducible apply And.intro)) <;> first | assumption | rfl | omega | (exact hI.1) | (exact hI.2.1) | (exact hq) | (exact hI.2.2.2.2.1) | (unfold rJoin; rw [if_neg (by omega)]) | (exact hI.2.2.1.2.1) | (exact hI.2.2.1.1) | (intro z h0 h1; omega) | (exact WM_0 (fun w a b => hI.2.2.2.2 w a (by omega))) | (rw [cnt_all _ (fun i a b => hI.2.2.2.2 i a (by omega))]; omega) | (exact upto_s (p := fun z v => v = -1) hI.2.2.2.2 rfl) | (rw [hI.2.2.2.2.1]; omega) | (have e9 := hI.2.2.2.2.1; rw [e9] at c_2; exact WM_e hg (by omega) (by omega) hI.2.2.2.2.2.1 c_2) | (rw [hI.2.2.2.2.1, hq _ h4.1 h4.2, show (x5 + 1).toNat = x5.toNat + 1 by omega]; rfl) | (rw [show (x5 + 1).toNat = x5.toNat + 1 by omega]; have e9 := WM_s hI.2.2.2.2.2.1 (by rw [← hI.2.2.2.2.1]; assumption); rw [← hI.2.2.2.2.1, show ((x5.toNat : Nat) : Int) = x5 by omega] at e9; exact e9) | (have e9 := cnt_upd (g := f17) (i := x4) (x := x5) (v := -1) (n := (s.2 6 2).toNat) (by omega) (by omega); rw [if_pos c_2, if_neg (by omega)] at e9; omega) | (have e9 := cnt_at (g := f17) (i := x4) (s.2 6 2).toNat (by omega) (by omega); rw [c_2] at e9; omega) | (rw [h7, hI.2.2.2.2.2.1, show (x6 + 1).toNat = x6.toNat + 1 by omega]; rfl) | (intro j h0 h1; by_cases e9 : j = x6; (focus (rw [e9, ← hI.2.2.2.2.2.1]; exact h6.2 c_3)); (focus (exact hI.2.2.2.2.2.2 j h0 (by omega)))) | (unfold rJoin; rw [if_pos (by omega), if_pos (join_no (fun j a b => hI.2.2.2.2.2.2 j a (by omega)))]) | (have ej := join_at (N := s.2 6 2) hI.2.2.2.1.1 (by omega) (by rw [← hI.2.2.2.2.2.1]; exact (h6.1 c_3).1) hI.2.2.2.2.2.2; unfold rJoin; rw [if_pos (by omega), ej, if_neg (by omega), ← hI.2.2.2.2.2.1]; first | rw [if_pos (by omega)] | rw [if_neg (by omega), if_pos (by omega)] | (rw [if_neg (by omega), if_neg (by omega)]; exact (h6.1 c_3).2)) | grind [upI])
theorem vX3_join_20 (s : MS) (a1 : Int) (a2 : Int) (a3 : Int) (hp : tOK (s.2 6) ∧ aOK (s.2 6) (s.2 7)) (x3 : Int) (x5 : Int) (x6 : Int) (f11 : Int → Int) (f12 : Int → Int) (f13 : Int → Int) (f14 : Int → Int) (f15 : Int → Int) (f16 : Int → Int) (f17 : Int → Int) (f18 : Int → Int) (f19 : Int → Int) (k0 : Int) (k25 : Int) (k33 : Int) (k34 : Int) (hI : k0 = 0 ∧ NXO (s.2 6) (s.2 7) f13 ∧ (x3 = a3 ∧ 0 ≤ a1 ∧ a1 < s.2 6 2 ∧ 0 ≤ a2 ∧ a2 < s.2 6 2 ∧ 0 ≤ a3 ∧ a3 ≤ 2) ∧ (0 ≤ x6 ∧ x6 ≤ s.2 6 2 + 1) ∧ (∀ w : Int, 0 ≤ w → w < s.2 6 2 → (f17 w ≠ -1 → orb (nx (s.2 6) (s.2 7)) a2 w ∧ f17 w = idx (nx (s.2 6) (s.2 7)) a2 w) ∧ (f17 w = -1 → ¬ orb (nx (s.2 6) (s.2 7)) a2 w)) ∧ x5 = it (nx (s.2 6) (s.2 7)) a1 x6.toNat ∧ ∀ j : Int, 0 ≤ j → j < x6 → ¬ orb (nx (s.2 6) (s.2 7)) a2 (it (nx (s.2 6) (s.2 7)) a1 j.toNat)) (c_1 : ¬ (s.2 6 2) < x6) (o_2 : (0 ≤ x5 ∧ x5 < 10000)) (c_3 : ¬ (f17 x5) = (-1)) (c_4 : x3 = 0) : k0 = (0) := by
  obtain ⟨ht, ha⟩ := hp
  have hN := tOK_N ht
  have hg := nx_rng (s.2 6) (s.2 7)
  (try simp only [bI_0, bI_n, Classical.not_not] at *)
  (try have hq := ‹NXO (s.2 6) (s.2 7) _›)
  (try have hq := hI.2.1)
  (try have h4 := it_b hg (x := a2) (by omega) (by omega) x5.toNat)
  (try have hc := cnt_nn f17 (-1) (s.2 6 2).toNat)
  (try (have h5 := it_b hg (x := a1) (by omega) (by omega) x6.toNat; rw [← hI.2.2.2.2.2.1] at h5; have h6 := hI.2.2.2.2.1 x5 h5.1 h5.2; have h7 := hq x5 h5.1 h5.2))
  (try unfold lex3)
  (try simp only [bI_0, bI_n, Classical.not_not] at *)
  (try simp (disch := omega) only [i32_id] at *)
  first | done | omega | ((repeat' (with_reducible apply And.intro)) <;> first | assumption | rfl | omega | (exact hI.1) | (exact hI.2.1) | (exact hq) | (exact hI.2.2.2.2.1) | (unfold rJoin; rw [if_neg (by omega)]) | (exact hI.2.2.1.2.1) | (exact hI.2.2.1.1) | (intro z h0 h1; omega) | (exact WM_0 (fun w a b => hI.2.2.2.2 w a (by omega))) | (rw [cnt_all _ (fun i a b => hI.2.2.2.2 i a (by omega))]; omega) | (exact upto_s (p := fun z v => v = -1) hI.2.2.2.2 rfl) | (rw [hI.2.2.2.2.1]; omega) | (have e9 := hI.2.2.2.2.1; rw [e9] at c_2; exact WM_e hg (by omega) (by omega) hI.2.2.2.2.2.1 c_2) | (rw [hI.2.2.2.2.1, hq _ h4.1 h4.2, show (x5 + 1).toNat = x5.toNat + 1 by omega]; rfl) | (rw [show (x5 + 1).toNat = x5.toNat + 1 by omega]; have e9 := WM_s hI.2.2.2.2.2.1 (by rw [← hI.2.2.2.2.1]; assumption); rw [← hI.2.2.2.2.1, show ((x5.toNat : Nat) : Int) = x5 by omega] at e9; exact e9) | (have e9 := cnt_upd (g := f17) (i := x4) (x := x5) (v := -1) (n := (s.2 6 2).toNat) (by omega) (by omega); rw [if_pos c_2, if_neg (by omega)] at e9; omega) | (have e9 := cnt_at (g := f17) (i := x4) (s.2 6 2).toNat (by omega) (by omega); rw [c_2] at e9; omega) | (rw [h7, hI.2.2.2.2.2.1, show (x6 + 1).toNat = x6.toNat + 1 by omega]; rfl) | (intro j h0 h1; by_cases e9 : j = x6; (focus (rw [e9, ← hI.2.2.2.2.2.1]; exact h6.2 c_3)); (focus (exact hI.2.2.2.2.2.2 j h0 (by omega)))) | (unfold rJoin; rw [if_pos (by omega), if_pos (join_no (fun j a b => hI.2.2.2.2.2.2 j a (by omega)))]) | (have ej := join_at (N := s.2 6 2) hI.2.2.2.1.1 (by omega) (by rw [← hI.2.2.2.2.2.1]; exact (h6.1 c_3).1) hI.2.2.2.2.2.2; unfold rJoin; rw [if_pos (by omega), ej, if_neg (by omega), ← hI.2.2.2.2.2.1]; first | rw [if_pos (by omega)] | rw [if_neg (by omega), if_pos (by omega)] | (rw [if_neg (by omega), if_neg (by omega)]; exact (h6.1 c_3).2)) | grind [upI])
theorem vX3_join_21 (s : MS) (a1 : Int) (a2 : Int) (a3 : Int) (hp : tOK (s.2 6) ∧ aOK (s.2 6) (s.2 7)) (x3 : Int) (x5 : Int) (x6 : Int) (f11 : Int → Int) (f12 : Int → Int) (f13 : Int → Int) (f14 : Int → Int) (f15 : Int → Int) (f16 : Int → Int) (f17 : Int → Int) (f18 : Int → Int) (f19 : Int → Int) (k0 : Int) (k25 : Int) (k33 : Int) (k34 : Int) (hI : k0 = 0 ∧ NXO (s.2 6) (s.2 7) f13 ∧ (x3 = a3 ∧ 0 ≤ a1 ∧ a1 < s.2 6 2 ∧ 0 ≤ a2 ∧ a2 < s.2 6 2 ∧ 0 ≤ a3 ∧ a3 ≤ 2) ∧ (0 ≤ x6 ∧ x6 ≤ s.2 6 2 + 1) ∧ (∀ w : Int, 0 ≤ w → w < s.2 6 2 → (f17 w ≠ -1 → orb (nx (s.2 6) (s.2 7)) a2 w ∧ f17 w = idx (nx (s.2 6) (s.2 7)) a2 w) ∧ (f17 w = -1 → ¬ orb (nx (s.2 6) (s.2 7)) a2 w)) ∧ x5 = it (nx (s.2 6) (s.2 7)) a1 x6.toNat ∧ ∀ j : Int, 0 ≤ j → j < x6 → ¬ orb (nx (s.2 6) (s.2 7)) a2 (it (nx (s.2 6) (s.2 7)) a1 j.toNat)) (c_1 : ¬ (s.2 6 2) < x6) (o_2 : (0 ≤ x5 ∧ x5 < 10000)) (c_3 : ¬ (f17 x5) = (-1)) (c_4 : x3 = 0) : x5 = (rJoin (s.2 6) (s.2 7) a1 a2 a3) := by
  obtain ⟨ht, ha⟩ := hp
  have hN := tOK_N ht
  have hg := nx_rng (s.2 6) (s.2 7)
  (try simp only [bI_0, bI_n, Classical.not_not] at *)
  (try have hq := ‹NXO (s.2 6) (s.2 7) _›)
  (try have hq := hI.2.1)
  (try have h4 := it_b hg (x := a2) (by omega) (by omega) x5.toNat)
  (try have hc := cnt_nn f17 (-1) (s.2 6 2).toNat)
  (try (have h5 := it_b hg (x := a1) (by omega) (by omega) x6.toNat; rw [← hI.2.2.2.2.2.1] at h5; have h6 := hI.2.2.2.2.1 x5 h5.1 h5.2; have h7 := hq x5 h5.1 h5.2))
  (try unfold lex3)
  (try simp only [bI_0, bI_n, Classical.not_not] at *)
  (try simp (disch := omega) only [i32_id] at *)
  first | done | omega | ((repeat' (with_reducible apply And.intro)) <;> first | assumption | rfl | omega | (exact hI.1) | (exact hI.2.1) | (exact hq) | (exact hI.2.2.2.2.1) | (unfold rJoin; rw [if_neg (by omega)]) | (exact hI.2.2.1.2.1) | (exact hI.2.2.1.1) | (intro z h0 h1; omega) | (exact WM_0 (fun w a b => hI.2.2.2.2 w a (by omega))) | (rw [cnt_all _ (fun i a b => hI.2.2.2.2 i a (by omega))]; omega) | (exact upto_s (p := fun z v => v = -1) hI.2.2.2.2 rfl) | (rw [hI.2.2.2.2.1]; omega) | (have e9 := hI.2.2.2.2.1; rw [e9] at c_2; exact WM_e hg (by omega) (by omega) hI.2.2.2.2.2.1 c_2) | (rw [hI.2.2.2.2.1, hq _ h4.1 h4.2, show (x5 + 1).toNat = x5.toNat + 1 by omega]; rfl) | (rw [show (x5 + 1).toNat = x5.toNat + 1 by omega]; have e9 := WM_s hI.2.2.2.2.2.1 (by rw [← hI.2.2.2.2.1]; assumption); rw [← hI.2.2.2.2.1, show ((x5.toNat : Nat) : Int) = x5 by omega] at e9; exact e9) | (have e9 := cnt_upd (g := f17) (i := x4) (x := x5) (v := -1) (n := (s.2 6 2).toNat) (by omega) (by omega); rw [if_pos c_2, if_neg (by omega)] at e9; omega) | (have e9 := cnt_at (g := f17) (i := x4) (s.2 6 2).toNat (by omega) (by omega); rw [c_2] at e9; omega) | (rw [h7, hI.2.2.2.2.2.1, show (x6 + 1).toNat = x6.toNat + 1 by omega]; rfl) | (intro j h0 h1; by_cases e9 : j = x6; (focus (rw [e9, ← hI.2.2.2.2.2.1]; exact h6.2 c_3)); (focus (exact hI.2.2.2.2.2.2 j h0 (by omega)))) | (unfold rJoin; rw [if_pos (by omega), if_pos (join_no (fun j a b => hI.2.2.2.2.2.2 j a (by omega)))]) | (have ej := join_at (N := s.2 6 2) hI.2.2.2.1.1 (by omega) (by rw [← hI.2.2.2.2.2.1]; exact (h6.1 c_3).1) hI.2.2.2.2.2.2; unfold rJoin; rw [if_pos (by omega), ej, if_neg (by omega), ← hI.2.2.2.2.2.1]; first | rw [if_pos (by omega)] | rw [if_neg (by omega), if_pos (by omega)] | (rw [if_neg (by omega), if_neg (by omega)]; exact (h6.1 c_3).2)) | grind [upI])
theorem vX3_join_22 (s : MS) (a1 : Int) (a2 : Int) (a3 : Int) (hp : tOK (s.2 6) ∧ aOK (s.2 6) (s.2 7)) : (tOK (s.2 6)) := by
  obtain ⟨ht, ha⟩ := hp
  have hN := tOK_N ht
  have hg := nx_rng (s.2 6) (s.2 7)
  (try simp only [bI_0, bI_n, Classical.not_not] at *)
  (try have hq := ‹NXO (s.2 6) (s.2 7) _›)
  (try have hq := hI.2.1)
  (try have h4 := it_b hg (x := a2) (by omega) (by omega) x5.toNat)
  (try have hc := cnt_nn f17 (-1) (s.2 6 2).toNat)
  (try (have h5 := it_b hg (x := a1) (by omega) (by omega) x6.toNat; rw [← hI.2.2.2.2.2.1] at h5; have h6 := hI.2.2.2.2.1 x5 h5.1 h5.2; have h7 := hq x5 h5.1 h5.2))
  (try unfold lex3)
  (try simp only [bI_0, bI_n, Classical.not_not] at *)
  (try simp (disch := omega) only [i32_id] at *)
  first | done | omega | ((repeat' (with_reducible apply And.intro)) <;> first | assumption | rfl | omega | (exact hI.1) | (exact hI.2.1) | (exact hq) | (exact hI.2.2.2.2.1) | (unfold rJoin; rw [if_neg (by omega)]) | (exact hI.2.2.1.2.1) | (exact hI.2.2.1.1) | (intro z h0 h1; omega) | (exact WM_0 (fun w a b => hI.2.2.2.2 w a (by omega))) | (rw [cnt_all _ (fun i a b => hI.2.2.2.2 i a (by omega))]; omega) | (exact upto_s (p := fun z v => v = -1) hI.2.2.2.2 rfl) | (rw [hI.2.2.2.2.1]; omega) | (have e9 := hI.2.2.2.2.1; rw [e9] at c_2; exact WM_e hg (by omega) (by omega) hI.2.2.2.2.2.1 c_2) | (rw [hI.2.2.2.2.1, hq _ h4.1 h4.2, show (x5 + 1).toNat = x5.toNat + 1 by omega]; rfl) | (rw [show (x5 + 1).toNat = x5.toNat + 1 by omega]; have e9 := WM_s hI.2.2.2.2.2.1 (by rw [← hI.2.2.2.2.1]; assumption); rw [← hI.2.2.2.2.1, show ((x5.toNat : Nat) : Int) = x5 by omega] at e9; exact e9) | (have e9 := cnt_upd (g := f17) (i := x4) (x := x5) (v := -1) (n := (s.2 6 2).toNat) (by omega) (by omega); rw [if_pos c_2, if_neg (by omega)] at e9; omega) | (have e9 := cnt_at (g := f17) (i := x4) (s.2 6 2).toNat (by omega) (by omega); rw [c_2] at e9; omega) | (rw [h7, hI.2.2.2.2.2.1, show (x6 + 1).toNat = x6.toNat + 1 by omega]; rfl) | (intro j h0 h1; by_cases e9 : j = x6; (focus (rw [e9, ← hI.2.2.2.2.2.1]; exact h6.2 c_3)); (focus (exact hI.2.2.2.2.2.2 j h0 (by omega)))) | (unfold rJoin; rw [if_pos (by omega), if_pos (join_no (fun j a b => hI.2.2.2.2.2.2 j a (by omega)))]) | (have ej := join_at (N := s.2 6 2) hI.2.2.2.1.1 (by omega) (by rw [← hI.2.2.2.2.2.1]; exact (h6.1 c_3).1) hI.2.2.2.2.2.2; unfold rJoin; rw [if_pos (by omega), ej, if_neg (by omega), ← hI.2.2.2.2.2.1]; first | rw [if_pos (by omega)] | rw [if_neg (by omega), if_pos (by omega)] | (rw [if_neg (by omega), if_neg (by omega)]; exact (h6.1 c_3).2)) | grind [upI])
theorem vX3_join_23 (s : MS) (a1 : Int) (a2 : Int) (a3 : Int) (hp : tOK (s.2 6) ∧ aOK (s.2 6) (s.2 7)) (o_1 : (tOK (s.2 6))) (c_3 : (bI (0 ≤ a1 ∧ a1 < (s.2 6) 2)) = 0) : (-2) = (rJoin (s.2 6) (s.2 7) a1 a2 a3) := by
  obtain ⟨ht, ha⟩ := hp
  have hN := tOK_N ht
  have hg := nx_rng (s.2 6) (s.2 7)
  (try simp only [bI_0, bI_n, Classical.not_not] at *)
  (try have hq := ‹NXO (s.2 6) (s.2 7) _›)
  (try have hq := hI.2.1)
  (try have h4 := it_b hg (x := a2) (by omega) (by omega) x5.toNat)
  (try have hc := cnt_nn f17 (-1) (s.2 6 2).toNat)
  (try (have h5 := it_b hg (x := a1) (by omega) (by omega) x6.toNat; rw [← hI.2.2.2.2.2.1] at h5; have h6 := hI.2.2.2.2.1 x5 h5.1 h5.2; have h7 := hq x5 h5.1 h5.2))
  (try unfold lex3)
  (try simp only [bI_0, bI_n, Classical.not_not] at *)
  (try simp (disch := omega) only [i32_id] at *)
  first | done | omega | ((repeat' (with_reducible apply And.intro)) <;> first | assumption | rfl | omega | (exact hI.1) | (exact hI.2.1) | (exact hq) | (exact hI.2.2.2.2.1) | (unfold rJoin; rw [if_neg (by omega)]) | (exact hI.2.2.1.2.1) | (exact hI.2.2.1.1) | (intro z h0 h1; omega) | (exact WM_0 (fun w a b => hI.2.2.2.2 w a (by omega))) | (rw [cnt_all _ (fun i a b => hI.2.2.2.2 i a (by omega))]; omega) | (exact upto_s (p := fun z v => v = -1) hI.2.2.2.2 rfl) | (rw [hI.2.2.2.2.1]; omega) | (have e9 := hI.2.2.2.2.1; rw [e9] at c_2; exact WM_e hg (by omega) (by omega) hI.2.2.2.2.2.1 c_2) | (rw [hI.2.2.2.2.1, hq _ h4.1 h4.2, show (x5 + 1).toNat = x5.toNat + 1 by omega]; rfl) | (rw [show (x5 + 1).toNat = x5.toNat + 1 by omega]; have e9 := WM_s hI.2.2.2.2.2.1 (by rw [← hI.2.2.2.2.1]; assumption); rw [← hI.2.2.2.2.1, show ((x5.toNat : Nat) : Int) = x5 by omega] at e9; exact e9) | (have e9 := cnt_upd (g := f17) (i := x4) (x := x5) (v := -1) (n := (s.2 6 2).toNat) (by omega) (by omega); rw [if_pos c_2, if_neg (by omega)] at e9; omega) | (have e9 := cnt_at (g := f17) (i := x4) (s.2 6 2).toNat (by omega) (by omega); rw [c_2] at e9; omega) | (rw [h7, hI.2.2.2.2.2.1, show (x6 + 1).toNat = x6.toNat + 1 by omega]; rfl) | (intro j h0 h1; by_cases e9 : j = x6; (focus (rw [e9, ← hI.2.2.2.2.2.1]; exact h6.2 c_3)); (focus (exact hI.2.2.2.2.2.2 j h0 (by omega)))) | (unfold rJoin; rw [if_pos (by omega), if_pos (join_no (fun j a b => hI.2.2.2.2.2.2 j a (by omega)))]) | (have ej := join_at (N := s.2 6 2) hI.2.2.2.1.1 (by omega) (by rw [← hI.2.2.2.2.2.1]; exact (h6.1 c_3).1) hI.2.2.2.2.2.2; unfold rJoin; rw [if_pos (by omega), ej, if_neg (by omega), ← hI.2.2.2.2.2.1]; first | rw [if_pos (by omega)] | rw [if_neg (by omega), if_pos (by omega)] | (rw [if_neg (by omega), if_neg (by omega)]; exact (h6.1 c_3).2)) | grind [upI])
theorem vX3_join_24 (s : MS) (a1 : Int) (a2 : Int) (a3 : Int) (hp : tOK (s.2 6) ∧ aOK (s.2 6) (s.2 7)) (o_1 : (tOK (s.2 6))) (c_3 : ¬ (bI (0 ≤ a1 ∧ a1 < (s.2 6) 2)) = 0) (c_5 : (bI (0 ≤ a2 ∧ a2 < (s.2 6) 2)) = 0) : (-2) = (rJoin (s.2 6) (s.2 7) a1 a2 a3) := by
  obtain ⟨ht, ha⟩ := hp
  have hN := tOK_N ht
  have hg := nx_rng (s.2 6) (s.2 7)
  (try simp only [bI_0, bI_n, Classical.not_not] at *)
  (try have hq := ‹NXO (s.2 6) (s.2 7) _›)
  (try have hq := hI.2.1)
  (try have h4 := it_b hg (x := a2) (by omega) (by omega) x5.toNat)
  (try have hc := cnt_nn f17 (-1) (s.2 6 2).toNat)
  (try (have h5 := it_b hg (x := a1) (by omega) (by omega) x6.toNat; rw [← hI.2.2.2.2.2.1] at h5; have h6 := hI.2.2.2.2.1 x5 h5.1 h5.2; have h7 := hq x5 h5.1 h5.2))
  (try unfold lex3)
  (try simp only [bI_0, bI_n, Classical.not_not] at *)
  (try simp (disch := omega) only [i32_id] at *)
  first | done | omega | ((repeat' (with_reducible apply And.intro)) <;> first | assumption | rfl | omega | (exact hI.1) | (exact hI.2.1) | (exact hq) | (exact hI.2.2.2.2.1) | (unfold rJoin; rw [if_neg (by omega)]) | (exact hI.2.2.1.2.1) | (exact hI.2.2.1.1) | (intro z h0 h1; omega) | (exact WM_0 (fun w a b => hI.2.2.2.2 w a (by omega))) | (rw [cnt_all _ (fun i a b => hI.2.2.2.2 i a (by omega))]; omega) | (exact upto_s (p := fun z v => v = -1) hI.2.2.2.2 rfl) | (rw [hI.2.2.2.2.1]; omega) | (have e9 := hI.2.2.2.2.1; rw [e9] at c_2; exact WM_e hg (by omega) (by omega) hI.2.2.2.2.2.1 c_2) | (rw [hI.2.2.2.2.1, hq _ h4.1 h4.2, show (x5 + 1).toNat = x5.toNat + 1 by omega]; rfl) | (rw [show (x5 + 1).toNat = x5.toNat + 1 by omega]; have e9 := WM_s hI.2.2.2.2.2.1 (by rw [← hI.2.2.2.2.1]; assumption); rw [← hI.2.2.2.2.1, show ((x5.toNat : Nat) : Int) = x5 by omega] at e9; exact e9) | (have e9 := cnt_upd (g := f17) (i := x4) (x := x5) (v := -1) (n := (s.2 6 2).toNat) (by omega) (by omega); rw [if_pos c_2, if_neg (by omega)] at e9; omega) | (have e9 := cnt_at (g := f17) (i := x4) (s.2 6 2).toNat (by omega) (by omega); rw [c_2] at e9; omega) | (rw [h7, hI.2.2.2.2.2.1, show (x6 + 1).toNat = x6.toNat + 1 by omega]; rfl) | (intro j h0 h1; by_cases e9 : j = x6; (focus (rw [e9, ← hI.2.2.2.2.2.1]; exact h6.2 c_3)); (focus (exact hI.2.2.2.2.2.2 j h0 (by omega)))) | (unfold rJoin; rw [if_pos (by omega), if_pos (join_no (fun j a b => hI.2.2.2.2.2.2 j a (by omega)))]) | (have ej := join_at (N := s.2 6 2) hI.2.2.2.1.1 (by omega) (by rw [← hI.2.2.2.2.2.1]; exact (h6.1 c_3).1) hI.2.2.2.2.2.2; unfold rJoin; rw [if_pos (by omega), ej, if_neg (by omega), ← hI.2.2.2.2.2.1]; first | rw [if_pos (by omega)] | rw [if_neg (by omega), if_pos (by omega)] | (rw [if_neg (by omega), if_neg (by omega)]; exact (h6.1 c_3).2)) | grind [upI])
theorem vX3_join_25 (s : MS) (a1 : Int) (a2 : Int) (a3 : Int) (hp : tOK (s.2 6) ∧ aOK (s.2 6) (s.2 7)) (o_1 : (tOK (s.2 6))) (c_3 : ¬ (bI (0 ≤ a1 ∧ a1 < (s.2 6) 2)) = 0) (c_5 : ¬ (bI (0 ≤ a2 ∧ a2 < (s.2 6) 2)) = 0) (c_7 : ¬ (bI ((0 : Int) ≤ a3 ∧ a3 ≤ (2 : Int))) = 0) : (tOK (s.2 6) ∧ aOK (s.2 6) (s.2 7)) := by
  obtain ⟨ht, ha⟩ := hp
  have hN := tOK_N ht
  have hg := nx_rng (s.2 6) (s.2 7)
  (try simp only [bI_0, bI_n, Classical.not_not] at *)
  (try have hq := ‹NXO (s.2 6) (s.2 7) _›)
  (try have hq := hI.2.1)
  (try have h4 := it_b hg (x := a2) (by omega) (by omega) x5.toNat)
  (try have hc := cnt_nn f17 (-1) (s.2 6 2).toNat)
  (try (have h5 := it_b hg (x := a1) (by omega) (by omega) x6.toNat; rw [← hI.2.2.2.2.2.1] at h5; have h6 := hI.2.2.2.2.1 x5 h5.1 h5.2; have h7 := hq x5 h5.1 h5.2))
  (try unfold lex3)
  (try simp only [bI_0, bI_n, Classical.not_not] at *)
  (try simp (disch := omega) only [i32_id] at *)
  first | done | omega | ((repeat' (with_reducible apply And.intro)) <;> first | assumption | rfl | omega | (exact hI.1) | (exact hI.2.1) | (exact hq) | (exact hI.2.2.2.2.1) | (unfold rJoin; rw [if_neg (by omega)]) | (exact hI.2.2.1.2.1) | (exact hI.2.2.1.1) | (intro z h0 h1; omega) | (exact WM_0 (fun w a b => hI.2.2.2.2 w a (by omega))) | (rw [cnt_all _ (fun i a b => hI.2.2.2.2 i a (by omega))]; omega) | (exact upto_s (p := fun z v => v = -1) hI.2.2.2.2 rfl) | (rw [hI.2.2.2.2.1]; omega) | (have e9 := hI.2.2.2.2.1; rw [e9] at c_2; exact WM_e hg (by omega) (by omega) hI.2.2.2.2.2.1 c_2) | (rw [hI.2.2.2.2.1, hq _ h4.1 h4.2, show (x5 + 1).toNat = x5.toNat + 1 by omega]; rfl) | (rw [show (x5 + 1).toNat = x5.toNat + 1 by omega]; have e9 := WM_s hI.2.2.2.2.2.1 (by rw [← hI.2.2.2.2.1]; assumption); rw [← hI.2.2.2.2.1, show ((x5.toNat : Nat) : Int) = x5 by omega] at e9; exact e9) | (have e9 := cnt_upd (g := f17) (i := x4) (x := x5) (v := -1) (n := (s.2 6 2).toNat) (by omega) (by omega); rw [if_pos c_2, if_neg (by omega)] at e9; omega) | (have e9 := cnt_at (g := f17) (i := x4) (s.2 6 2).toNat (by omega) (by omega); rw [c_2] at e9; omega) | (rw [h7, hI.2.2.2.2.2.1, show (x6 + 1).toNat = x6.toNat + 1 by omega]; rfl) | (intro j h0 h1; by_cases e9 : j = x6; (focus (rw [e9, ← hI.2.2.2.2.2.1]; exact h6.2 c_3)); (focus (exact hI.2.2.2.2.2.2 j h0 (by omega)))) | (unfold rJoin; rw [if_pos (by omega), if_pos (join_no (fun j a b => hI.2.2.2.2.2.2 j a (by omega)))]) | (have ej := join_at (N := s.2 6 2) hI.2.2.2.1.1 (by omega) (by rw [← hI.2.2.2.2.2.1]; exact (h6.1 c_3).1) hI.2.2.2.2.2.2; unfold rJoin; rw [if_pos (by omega), ej, if_neg (by omega), ← hI.2.2.2.2.2.1]; first | rw [if_pos (by omega)] | rw [if_neg (by omega), if_pos (by omega)] | (rw [if_neg (by omega), if_neg (by omega)]; exact (h6.1 c_3).2)) | grind [upI])
theorem vX3_join_26 (s : MS) (a1 : Int) (a2 : Int) (a3 : Int) (hp : tOK (s.2 6) ∧ aOK (s.2 6) (s.2 7)) (o_1 : (tOK (s.2 6))) (c_3 : ¬ (bI (0 ≤ a1 ∧ a1 < (s.2 6) 2)) = 0) (c_5 : ¬ (bI (0 ≤ a2 ∧ a2 < (s.2 6) 2)) = 0) (c_7 : ¬ (bI ((0 : Int) ≤ a3 ∧ a3 ≤ (2 : Int))) = 0) (o_8 : (tOK (s.2 6) ∧ aOK (s.2 6) (s.2 7))) (f_9 : Int → Int) (f_10 : Int → Int) (f_11 : Int → Int) (k_12 : Int) (q_13 : (NXO (s.2 6) (s.2 7) f_11)) : (0 : Int) = 0 ∧ NXO (s.2 6) (s.2 7) f_11 ∧ (a1 = a1 ∧ a2 = a2 ∧ a3 = a3 ∧ 0 ≤ a1 ∧ a1 < s.2 6 2 ∧ 0 ≤ a2 ∧ a2 < s.2 6 2 ∧ 0 ≤ a3 ∧ a3 ≤ 2) ∧ (0 ≤ (0 : Int) ∧ (0 : Int) ≤ s.2 6 2) ∧ ∀ z : Int, 0 ≤ z → z < (0 : Int) → (s.2 17) z = -1 := by
  obtain ⟨ht, ha⟩ := hp
  have hN := tOK_N ht
  have hg := nx_rng (s.2 6) (s.2 7)
  (try simp only [bI_0, bI_n, Classical.not_not] at *)
  (try have hq := ‹NXO (s.2 6) (s.2 7) _›)
  (try have hq := hI.2.1)
  (try have h4 := it_b hg (x := a2) (by omega) (by omega) x5.toNat)
  (try have hc := cnt_nn f17 (-1) (s.2 6 2).toNat)
  (try (have h5 := it_b hg (x := a1) (by omega) (by omega) x6.toNat; rw [← hI.2.2.2.2.2.1] at h5; have h6 := hI.2.2.2.2.1 x5 h5.1 h5.2; have h7 := hq x5 h5.1 h5.2))
  (try unfold lex3)
  (try simp only [bI_0, bI_n, Classical.not_not] at *)
  (try simp (disch := omega) only [i32_id] at *)
  first | done | omega | ((repeat' (with_reducible apply And.intro)) <;> first | assumption | rfl | omega | (exact hI.1) | (exact hI.2.1) | (exact hq) | (exact hI.2.2.2.2.1) | (unfold rJoin; rw [if_neg (by omega)]) | (exact hI.2.2.1.2.1) | (exact hI.2.2.1.1) | (intro z h0 h1; omega) | (exact WM_0 (fun w a b => hI.2.2.2.2 w a (by omega))) | (rw [cnt_all _ (fun i a b => hI.2.2.2.2 i a (by omega))]; omega) | (exact upto_s (p := fun z v => v = -1) hI.2.2.2.2 rfl) | (rw [hI.2.2.2.2.1]; omega) | (have e9 := hI.2.2.2.2.1; rw [e9] at c_2; exact WM_e hg (by omega) (by omega) hI.2.2.2.2.2.1 c_2) | (rw [hI.2.2.2.2.1, hq _ h4.1 h4.2, show (x5 + 1).toNat = x5.toNat + 1 by omega]; rfl) | (rw [show (x5 + 1).toNat = x5.toNat + 1 by omega]; have e9 := WM_s hI.2.2.2.2.2.1 (by rw [← hI.2.2.2.2.1]; assumption); rw [← hI.2.2.2.2.1, show ((x5.toNat : Nat) : Int) = x5 by omega] at e9; exact e9) | (have e9 := cnt_upd (g := f17) (i := x4) (x := x5) (v := -1) (n := (s.2 6 2).toNat) (by omega) (by omega); rw [if_pos c_2, if_neg (by omega)] at e9; omega) | (have e9 := cnt_at (g := f17) (i := x4) (s.2 6 2).toNat (by omega) (by omega); rw [c_2] at e9; omega) | (rw [h7, hI.2.2.2.2.2.1, show (x6 + 1).toNat = x6.toNat + 1 by omega]; rfl) | (intro j h0 h1; by_cases e9 : j = x6; (focus (rw [e9, ← hI.2.2.2.2.2.1]; exact h6.2 c_3)); (focus (exact hI.2.2.2.2.2.2 j h0 (by omega)))) | (unfold rJoin; rw [if_pos (by omega), if_pos (join_no (fun j a b => hI.2.2.2.2.2.2 j a (by omega)))]) | (have ej := join_at (N := s.2 6 2) hI.2.2.2.1.1 (by omega) (by rw [← hI.2.2.2.2.2.1]; exact (h6.1 c_3).1) hI.2.2.2.2.2.2; unfold rJoin; rw [if_pos (by omega), ej, if_neg (by omega), ← hI.2.2.2.2.2.1]; first | rw [if_pos (by omega)] | rw [if_neg (by omega), if_pos (by omega)] | (rw [if_neg (by omega), if_neg (by omega)]; exact (h6.1 c_3).2)) | grind [upI])
theorem vX3_join_27 (s : MS) (a1 : Int) (a2 : Int) (a3 : Int) (hp : tOK (s.2 6) ∧ aOK (s.2 6) (s.2 7)) (o_1 : (tOK (s.2 6))) (c_3 : ¬ (bI (0 ≤ a1 ∧ a1 < (s.2 6) 2)) = 0) (c_5 : ¬ (bI (0 ≤ a2 ∧ a2 < (s.2 6) 2)) = 0) (c_7 : (bI ((0 : Int) ≤ a3 ∧ a3 ≤ (2 : Int))) = 0) : (-2) = (rJoin (s.2 6) (s.2 7) a1 a2 a3) := by
  obtain ⟨ht, ha⟩ := hp
  have hN := tOK_N ht
  have hg := nx_rng (s.2 6) (s.2 7)
  (try simp only [bI_0, bI_n, Classical.not_not] at *)
  (try have hq := ‹NXO (s.2 6) (s.2 7) _›)
  (try have hq := hI.2.1)
  (try have h4 := it_b hg (x := a2) (by omega) (by omega) x5.toNat)
  (try have hc := cnt_nn f17 (-1) (s.2 6 2).toNat)
  (try (have h5 := it_b hg (x := a1) (by omega) (by omega) x6.toNat; rw [← hI.2.2.2.2.2.1] at h5; have h6 := hI.2.2.2.2.1 x5 h5.1 h5.2; have h7 := hq x5 h5.1 h5.2))
  (try unfold lex3)
  (try simp only [bI_0, bI_n, Classical.not_not] at *)
  (try simp (disch := omega) only [i32_id] at *)
  first | done | omega | ((repeat' (with_reducible apply And.intro)) <;> first | assumption | rfl | omega | (exact hI.1) | (exact hI.2.1) | (exact hq) | (exact hI.2.2.2.2.1) | (unfold rJoin; rw [if_neg (by omega)]) | (exact hI.2.2.1.2.1) | (exact hI.2.2.1.1) | (intro z h0 h1; omega) | (exact WM_0 (fun w a b => hI.2.2.2.2 w a (by omega))) | (rw [cnt_all _ (fun i a b => hI.2.2.2.2 i a (by omega))]; omega) | (exact upto_s (p := fun z v => v = -1) hI.2.2.2.2 rfl) | (rw [hI.2.2.2.2.1]; omega) | (have e9 := hI.2.2.2.2.1; rw [e9] at c_2; exact WM_e hg (by omega) (by omega) hI.2.2.2.2.2.1 c_2) | (rw [hI.2.2.2.2.1, hq _ h4.1 h4.2, show (x5 + 1).toNat = x5.toNat + 1 by omega]; rfl) | (rw [show (x5 + 1).toNat = x5.toNat + 1 by omega]; have e9 := WM_s hI.2.2.2.2.2.1 (by rw [← hI.2.2.2.2.1]; assumption); rw [← hI.2.2.2.2.1, show ((x5.toNat : Nat) : Int) = x5 by omega] at e9; exact e9) | (have e9 := cnt_upd (g := f17) (i := x4) (x := x5) (v := -1) (n := (s.2 6 2).toNat) (by omega) (by omega); rw [if_pos c_2, if_neg (by omega)] at e9; omega) | (have e9 := cnt_at (g := f17) (i := x4) (s.2 6 2).toNat (by omega) (by omega); rw [c_2] at e9; omega) | (rw [h7, hI.2.2.2.2.2.1, show (x6 + 1).toNat = x6.toNat + 1 by omega]; rfl) | (intro j h0 h1; by_cases e9 : j = x6; (focus (rw [e9, ← hI.2.2.2.2.2.1]; exact h6.2 c_3)); (focus (exact hI.2.2.2.2.2.2 j h0 (by omega)))) | (unfold rJoin; rw [if_pos (by omega), if_pos (join_no (fun j a b => hI.2.2.2.2.2.2 j a (by omega)))]) | (have ej := join_at (N := s.2 6 2) hI.2.2.2.1.1 (by omega) (by rw [← hI.2.2.2.2.2.1]; exact (h6.1 c_3).1) hI.2.2.2.2.2.2; unfold rJoin; rw [if_pos (by omega), ej, if_neg (by omega), ← hI.2.2.2.2.2.1]; first | rw [if_pos (by omega)] | rw [if_neg (by omega), if_pos (by omega)] | (rw [if_neg (by omega), if_neg (by omega)]; exact (h6.1 c_3).2)) | grind [upI])
theorem allX3_join (b : AH) (s : MS) (a1 : Int) (a2 : Int) (a3 : Int) (hp : tOK (s.2 6) ∧ aOK (s.2 6) (s.2 7)) : ∀ m1 m2 m3 : Nat, (∀ (x1 : Int) (x2 : Int) (x3 : Int) (x4 : Int) (f11 : Int → Int) (f12 : Int → Int) (f13 : Int → Int) (f14 : Int → Int) (f15 : Int → Int) (f16 : Int → Int) (f17 : Int → Int) (f18 : Int → Int) (f19 : Int → Int) (k0 : Int) (k25 : Int) (k33 : Int) (k34 : Int), m1 = 0 → m2 = 2 → m3 = ((s.2 6 2 - x4).toNat) → (k0 = 0 ∧ NXO (s.2 6) (s.2 7) f13 ∧ (x1 = a1 ∧ x2 = a2 ∧ x3 = a3 ∧ 0 ≤ a1 ∧ a1 < s.2 6 2 ∧ 0 ≤ a2 ∧ a2 < s.2 6 2 ∧ 0 ≤ a3 ∧ a3 ≤ 2) ∧ (0 ≤ x4 ∧ x4 ≤ s.2 6 2) ∧ ∀ z : Int, 0 ≤ z → z < x4 → f17 z = -1) → HX3_join_45 (QX3_join s a1 a2 a3) b s x1 x2 x3 x4 f11 f12 f13 f14 f15 f16 f17 f18 f19 k0 k25 k33 k34) ∧ (∀ (x1 : Int) (x3 : Int) (x4 : Int) (x5 : Int) (f11 : Int → Int) (f12 : Int → Int) (f13 : Int → Int) (f14 : Int → Int) (f15 : Int → Int) (f16 : Int → Int) (f17 : Int → Int) (f18 : Int → Int) (f19 : Int → Int) (k0 : Int) (k25 : Int) (k33 : Int) (k34 : Int), m1 = 0 → m2 = 1 → m3 = ((s.2 6 2 - x5).toNat) → (k0 = 0 ∧ NXO (s.2 6) (s.2 7) f13 ∧ (x1 = a1 ∧ x3 = a3 ∧ 0 ≤ a1 ∧ a1 < s.2 6 2 ∧ 0 ≤ a2 ∧ a2 < s.2 6 2 ∧ 0 ≤ a3 ∧ a3 ≤ 2) ∧ 0 ≤ x5 ∧ x4 = it (nx (s.2 6) (s.2 7)) a2 x5.toNat ∧ WM (nx (s.2 6) (s.2 7)) f17 (s.2 6 2) a2 x5.toNat ∧ x5 + cnt f17 (-1) (s.2 6 2).toNat = s.2 6 2) → HX3_join_76 (QX3_join s a1 a2 a3) b s x1 x3 x4 x5 f11 f12 f13 f14 f15 f16 f17 f18 f19 k0 k25 k33 k34) ∧ (∀ (x3 : Int) (x5 : Int) (x6 : Int) (f11 : Int → Int) (f12 : Int → Int) (f13 : Int → Int) (f14 : Int → Int) (f15 : Int → Int) (f16 : Int → Int) (f17 : Int → Int) (f18 : Int → Int) (f19 : Int → Int) (k0 : Int) (k25 : Int) (k33 : Int) (k34 : Int), m1 = 0 → m2 = 0 → m3 = ((s.2 6 2 + 1 - x6).toNat) → (k0 = 0 ∧ NXO (s.2 6) (s.2 7) f13 ∧ (x3 = a3 ∧ 0 ≤ a1 ∧ a1 < s.2 6 2 ∧ 0 ≤ a2 ∧ a2 < s.2 6 2 ∧ 0 ≤ a3 ∧ a3 ≤ 2) ∧ (0 ≤ x6 ∧ x6 ≤ s.2 6 2 + 1) ∧ (∀ w : Int, 0 ≤ w → w < s.2 6 2 → (f17 w ≠ -1 → orb (nx (s.2 6) (s.2 7)) a2 w ∧ f17 w = idx (nx (s.2 6) (s.2 7)) a2 w) ∧ (f17 w = -1 → ¬ orb (nx (s.2 6) (s.2 7)) a2 w)) ∧ x5 = it (nx (s.2 6) (s.2 7)) a1 x6.toNat ∧ ∀ j : Int, 0 ≤ j → j < x6 → ¬ orb (nx (s.2 6) (s.2 7)) a2 (it (nx (s.2 6) (s.2 7)) a1 j.toNat)) → HX3_join_117 (QX3_join s a1 a2 a3) b s x3 x5 x6 f11 f12 f13 f14 f15 f16 f17 f18 f19 k0 k25 k33 k34) := by
  refine lex3_ind ?_
  intro m1 m2 m3 ih
  refine ⟨?_, ?_, ?_⟩
  · rintro x1 x2 x3 x4 f11 f12 f13 f14 f15 f16 f17 f18 f19 k0 k25 k33 k34 rfl rfl rfl hI
    refine bX3_join_45 b s x1 x2 x3 x4 f11 f12 f13 f14 f15 f16 f17 f18 f19 k0 k25 k33 k34 ?_
    refine ⟨fun c_1 => ?_, fun c_1 => ?_⟩
    · exact (ih _ _ _ (vX3_join_2 s a1 a2 a3 hp x1 x2 x3 x4 f11 f12 f13 f14 f15 f16 f17 f18 f19 k0 k25 k33 k34 hI c_1)).2.1 x1 x3 x2 0 f11 f12 f13 f14 f15 f16 f17 f18 f19 k0 k25 k33 k34 rfl rfl rfl (vX3_join_1 s a1 a2 a3 hp x1 x2 x3 x4 f11 f12 f13 f14 f15 f16 f17 f18 f19 k0 k25 k33 k34 hI c_1)
    · have o_2 : (0 ≤ x4 ∧ x4 < 10000) := (vX3_join_3 s a1 a2 a3 hp x1 x2 x3 x4 f11 f12 f13 f14 f15 f16 f17 f18 f19 k0 k25 k33 k34 hI c_1)
      refine ⟨o_2, ?_⟩
      exact (ih _ _ _ (vX3_join_5 s a1 a2 a3 hp x1 x2 x3 x4 f11 f12 f13 f14 f15 f16 f17 f18 f19 k0 k25 k33 k34 hI c_1 o_2)).1 x1 x2 x3 (i32 (x4 + 1)) f11 f12 f13 f14 f15 f16 (upI f17 x4 (-1)) f18 f19 k0 k25 k33 k34 rfl rfl rfl (vX3_join_4 s a1 a2 a3 hp x1 x2 x3 x4 f11 f12 f13 f14 f15 f16 f17 f18 f19 k0 k25 k33 k34 hI c_1 o_2)
  · rintro x1 x3 x4 x5 f11 f12 f13 f14 f15 f16 f17 f18 f19 k0 k25 k33 k34 rfl rfl rfl hI
    refine bX3_join_76 b s x1 x3 x4 x5 f11 f12 f13 f14 f15 f16 f17 f18 f19 k0 k25 k33 k34 ?_
    have o_1 : (0 ≤ x4 ∧ x4 < 10000) := (vX3_join_6 s a1 a2 a3 hp x1 x3 x4 x5 f11 f12 f13 f14 f15 f16 f17 f18 f19 k0 k25 k33 k34 hI)
    refine ⟨o_1, ?_⟩
    refine ⟨fun c_2 => ?_, fun c_2 => ?_⟩
    · exact (ih _ _ _ (vX3_join_8 s a1 a2 a3 hp x1 x3 x4 x5 f11 f12 f13 f14 f15 f16 f17 f18 f19 k0 k25 k33 k34 hI o_1 c_2)).2.2 x3 x1 0 f11 f12 f13 f14 f15 f16 f17 f18 f19 k0 k25 k33 k34 rfl rfl rfl (vX3_join_7 s a1 a2 a3 hp x1 x3 x4 x5 f11 f12 f13 f14 f15 f16 f17 f18 f19 k0 k25 k33 k34 hI o_1 c_2)
    · exact (ih _ _ _ (vX3_join_10 s a1 a2 a3 hp x1 x3 x4 x5 f11 f12 f13 f14 f15 f16 f17 f18 f19 k0 k25 k33 k34 hI o_1 c_2)).2.1 x1 x3 (f13 x4) (i32 (x5 + 1)) f11 f12 f13 f14 f15 f16 (upI f17 x4 x5) f18 f19 k0 k25 k33 k34 rfl rfl rfl (vX3_join_9 s a1 a2 a3 hp x1 x3 x4 x5 f11 f12 f13 f14 f15 f16 f17 f18 f19 k0 k25 k33 k34 hI o_1 c_2)
  · rintro x3 x5 x6 f11 f12 f13 f14 f15 f16 f17 f18 f19 k0 k25 k33 k34 rfl rfl rfl hI
    refine bX3_join_117 b s x3 x5 x6 f11 f12 f13 f14 f15 f16 f17 f18 f19 k0 k25 k33 k34 ?_
    refine ⟨fun c_1 => ?_, fun c_1 => ?_⟩
    · exact ⟨f11, f12, f13, f14, f15, f16, f17, f18, f19, k25, k33, k34, (rI_c (vX3_join_12 s a1 a2 a3 hp x3 x5 x6 f11 f12 f13 f14 f15 f16 f17 f18 f19 k0 k25 k33 k34 hI c_1)), (sS_c (sS_c (sS_c (sS_c (sA_c (sA_c (sA_c (sA_c (sA_c (sA_c (sA_c (sA_c (sA_c rfl rfl) rfl) rfl) rfl) rfl) rfl) rfl) rfl) rfl) (vX3_join_11 s a1 a2 a3 hp x3 x5 x6 f11 f12 f13 f14 f15 f16 f17 f18 f19 k0 k25 k33 k34 hI c_1)) rfl) rfl) rfl)⟩
    · have o_2 : (0 ≤ x5 ∧ x5 < 10000) := (vX3_join_13 s a1 a2 a3 hp x3 x5 x6 f11 f12 f13 f14 f15 f16 f17 f18 f19 k0 k25 k33 k34 hI c_1)
      refine ⟨o_2, ?_⟩
      refine ⟨fun c_3 => ?_, fun c_3 => ?_⟩
      · exact (ih _ _ _ (vX3_join_15 s a1 a2 a3 hp x3 x5 x6 f11 f12 f13 f14 f15 f16 f17 f18 f19 k0 k25 k33 k34 hI c_1 o_2 c_3)).2.2 x3 (f13 x5) (i32 (x6 + 1)) f11 f12 f13 f14 f15 f16 f17 f18 f19 k0 k25 k33 k34 rfl rfl rfl (vX3_join_14 s a1 a2 a3 hp x3 x5 x6 f11 f12 f13 f14 f15 f16 f17 f18 f19 k0 k25 k33 k34 hI c_1 o_2 c_3)
      · refine ⟨fun c_4 => ?_, fun c_4 => ?_⟩
        · refine ⟨fun c_5 => ?_, fun c_5 => ?_⟩
          · exact ⟨f11, f12, f13, f14, f15, f16, f17, f18, f19, k25, k33, k34, (rI_c (vX3_join_17 s a1 a2 a3 hp x3 x5 x6 f11 f12 f13 f14 f15 f16 f17 f18 f19 k0 k25 k33 k34 hI c_1 o_2 c_3 c_4 c_5)), (sS_c (sS_c (sS_c (sS_c (sA_c (sA_c (sA_c (sA_c (sA_c (sA_c (sA_c (sA_c (sA_c rfl rfl) rfl) rfl) rfl) rfl) rfl) rfl) rfl) rfl) (vX3_join_16 s a1 a2 a3 hp x3 x5 x6 f11 f12 f13 f14 f15 f16 f17 f18 f19 k0 k25 k33 k34 hI c_1 o_2 c_3 c_4 c_5)) rfl) rfl) rfl)⟩
          · exact ⟨f11, f12, f13, f14, f15, f16, f17, f18, f19, k25, k33, k34, (rI_c (vX3_join_19 s a1 a2 a3 hp x3 x5 x6 f11 f12 f13 f14 f15 f16 f17 f18 f19 k0 k25 k33 k34 hI c_1 o_2 c_3 c_4 c_5)), (sS_c (sS_c (sS_c (sS_c (sA_c (sA_c (sA_c (sA_c (sA_c (sA_c (sA_c (sA_c (sA_c rfl rfl) rfl) rfl) rfl) rfl) rfl) rfl) rfl) rfl) (vX3_join_18 s a1 a2 a3 hp x3 x5 x6 f11 f12 f13 f14 f15 f16 f17 f18 f19 k0 k25 k33 k34 hI c_1 o_2 c_3 c_4 c_5)) rfl) rfl) rfl)⟩
        · exact ⟨f11, f12, f13, f14, f15, f16, f17, f18, f19, k25, k33, k34, (rI_c (vX3_join_21 s a1 a2 a3 hp x3 x5 x6 f11 f12 f13 f14 f15 f16 f17 f18 f19 k0 k25 k33 k34 hI c_1 o_2 c_3 c_4)), (sS_c (sS_c (sS_c (sS_c (sA_c (sA_c (sA_c (sA_c (sA_c (sA_c (sA_c (sA_c (sA_c rfl rfl) rfl) rfl) rfl) rfl) rfl) rfl) rfl) rfl) (vX3_join_20 s a1 a2 a3 hp x3 x5 x6 f11 f12 f13 f14 f15 f16 f17 f18 f19 k0 k25 k33 k34 hI c_1 o_2 c_3 c_4)) rfl) rfl) rfl)⟩
theorem ctX3_join (b : AH) (s : MS) (a1 : Int) (a2 : Int) (a3 : Int) (hp : tOK (s.2 6) ∧ aOK (s.2 6) (s.2 7)) : MC mX3_join 8 b s [vI a1, vI a2, vI a3] (QX3_join s a1 a2 a3) := by
  refine MC.of (by decide) rfl (Nat.le_of_ble_eq_true rfl) (JW.steq (s2 := sS (sS (sS (sS (sA (sA (sA (sA (sA (sA (sA (sA (sA s 11 (s.2 11)) 12 (s.2 12)) 13 (s.2 13)) 14 (s.2 14)) 15 (s.2 15)) 16 (s.2 16)) 17 (s.2 17)) 18 (s.2 18)) 19 (s.2 19)) 0 (s.1 0)) 25 (s.1 25)) 33 (s.1 33)) 34 (s.1 34)) (by simp only [sA_id, sS_id]) ?_)
  refine bX3_join_0 b s a1 a2 a3 (s.2 11) (s.2 12) (s.2 13) (s.2 14) (s.2 15) (s.2 16) (s.2 17) (s.2 18) (s.2 19) (s.1 0) (s.1 25) (s.1 33) (s.1 34) ?_
  have o_1 : (tOK (s.2 6)) := (vX3_join_22 s a1 a2 a3 hp)
  refine ⟨o_1, ?_⟩
  refine ⟨fun c_3 => ?_, fun c_3 => ?_⟩
  · exact ⟨(s.2 11), (s.2 12), (s.2 13), (s.2 14), (s.2 15), (s.2 16), (s.2 17), (s.2 18), (s.2 19), (s.1 25), (s.1 33), (s.1 34), (rI_c (vX3_join_23 s a1 a2 a3 hp o_1 c_3)), rfl⟩
  · refine ⟨fun c_5 => ?_, fun c_5 => ?_⟩
    · exact ⟨(s.2 11), (s.2 12), (s.2 13), (s.2 14), (s.2 15), (s.2 16), (s.2 17), (s.2 18), (s.2 19), (s.1 25), (s.1 33), (s.1 34), (rI_c (vX3_join_24 s a1 a2 a3 hp o_1 c_3 c_5)), rfl⟩
    · refine ⟨fun c_7 => ?_, fun c_7 => ?_⟩
      · have o_8 : (tOK (s.2 6) ∧ aOK (s.2 6) (s.2 7)) := (vX3_join_25 s a1 a2 a3 hp o_1 c_3 c_5 c_7)
        refine ⟨o_8, ?_⟩
        intro f_9 f_10 f_11 k_12 q_13
        exact (allX3_join b s a1 a2 a3 hp _ _ _).1 a1 a2 a3 0 f_9 f_10 f_11 (s.2 14) (s.2 15) (s.2 16) (s.2 17) (s.2 18) (s.2 19) 0 k_12 (s.1 33) (s.1 34) rfl rfl rfl (vX3_join_26 s a1 a2 a3 hp o_1 c_3 c_5 c_7 o_8 f_9 f_10 f_11 k_12 q_13)
      · exact ⟨(s.2 11), (s.2 12), (s.2 13), (s.2 14), (s.2 15), (s.2 16), (s.2 17), (s.2 18), (s.2 19), (s.1 25), (s.1 33), (s.1 34), (rI_c (vX3_join_27 s a1 a2 a3 hp o_1 c_3 c_5 c_7)), rfl⟩
def HX3_kinds_0 (Q : Option AV → MS → Prop) (b : AH) (s : MS) (f11 : Int → Int) (f12 : Int → Int) (f13 : Int → Int) (f14 : Int → Int) (f15 : Int → Int) (f16 : Int → Int) (f17 : Int → Int) (f18 : Int → Int) (f19 : Int → Int) (k0 : Int) (k25 : Int) (k33 : Int) (k34 : Int) : Prop := MW mX3_kinds 8 Q b 0 [(0, vR 351)] [] (sS (sS (sS (sS (sA (sA (sA (sA (sA (sA (sA (sA (sA s 11 f11) 12 f12) 13 f13) 14 f14) 15 f15) 16 f16) 17 f17) 18 f18) 19 f19) 0 k0) 25 k25) 33 k33) 34 k34)
def HX3_kinds_19 (Q : Option AV → MS → Prop) (b : AH) (s : MS) (x1 : Int) (x2 : Int) (f11 : Int → Int) (f12 : Int → Int) (f13 : Int → Int) (f14 : Int → Int) (f15 : Int → Int) (f16 : Int → Int) (f17 : Int → Int) (f18 : Int → Int) (f19 : Int → Int) (k0 : Int) (k25 : Int) (k33 : Int) (k34 : Int) : Prop := MW mX3_kinds 8 Q b 19 [(0, vR 351), (1, vI x1), (2, vI x2)] [] (sS (sS (sS (sS (sA (sA (sA (sA (sA (sA (sA (sA (sA s 11 f11) 12 f12) 13 f13) 14 f14) 15 f15) 16 f16) 17 f17) 18 f18) 19 f19) 0 k0) 25 k25) 33 k33) 34 k34)
theorem bX3_kinds_0 {Q : Option AV → MS → Prop} (b : AH) (s : MS) (f11 : Int → Int) (f12 : Int → Int) (f13 : Int → Int) (f14 : Int → Int) (f15 : Int → Int) (f16 : Int → Int) (f17 : Int → Int) (f18 : Int → Int) (f19 : Int → Int) (k0 : Int) (k25 : Int) (k33 : Int) (k34 : Int) (K : (¬ (bI (0 < (s.2 5) 0)) = 0 → HX3_kinds_19 Q b s 0 0 f11 f12 f13 f14 f15 f16 f17 f18 f19 0 k25 k33 k34) ∧ ((bI (0 < (s.2 5) 0)) = 0 → Q (some (vI (-2))) (sS (sS (sS (sS (sA (sA (sA (sA (sA (sA (sA (sA (sA s 11 f11) 12 f12) 13 f13) 14 f14) 15 f15) 16 f16) 17 f17) 18 f18) 19 f19) 0 0) 25 k25) 33 k33) 34 k34))) : HX3_kinds_0 Q b s f11 f12 f13 f14 f15 f16 f17 f18 f19 k0 k25 k33 k34 := by
  refine JW.aload_n dX3_kinds_0 rfl ?_
  refine JW.iconst dX3_kinds_1 rfl ?_
  refine JW.mputI dX3_kinds_2 (pX3_77 _) rfl ?_
  refine JW.steq (s2 := sS (sS (sS (sS (sA (sA (sA (sA (sA (sA (sA (sA (sA s 11 f11) 12 f12) 13 f13) 14 f14) 15 f15) 16 f16) 17 f17) 18 f18) 19 f19) 0 0) 25 k25) 33 k33) 34 k34) (by simp only [sA_A, sS_S, sA_S, sA_lt, sS_lt, Nat.reduceLT, id_eq] <;> rfl) ?_
  refine JW.aload_n dX3_kinds_5 rfl ?_
  refine JW.mcall (As := []) dX3_kinds_6 vX3_isTable rfl q1798 (ctX3_isTable b (sS (sS (sS (sS (sA (sA (sA (sA (sA (sA (sA (sA (sA s 11 f11) 12 f12) 13 f13) 14 f14) 15 f15) 16 f16) 17 f17) 18 f18) 19 f19) 0 0) 25 k25) 33 k33) 34 k34)) (Nat.le_of_ble_eq_true rfl) rfl (Nat.le_of_ble_eq_true rfl) ?_
  rintro _ _ ⟨rfl, eq_1⟩
  refine JW.steq (s2 := sS (sS (sS (sS (sA (sA (sA (sA (sA (sA (sA (sA (sA s 11 f11) 12 f12) 13 f13) 14 f14) 15 f15) 16 f16) 17 f17) 18 f18) 19 f19) 0 0) 25 k25) 33 k33) 34 k34) eq_1 ?_
  refine JW.if_ne (tgt := 15) dX3_kinds_9 rfl (fun c_2 => ?_) (fun c_2 => ?_)
  · have K := K.1 c_2
    refine JW.iconst dX3_kinds_15 rfl ?_
    refine JW.istore_n (ls' := [(0, vR 351), (1, vI 0)]) dX3_kinds_16 (Nat.le_of_ble_eq_true rfl) rfl ?_
    refine JW.iconst dX3_kinds_17 rfl ?_
    refine JW.istore_n (ls' := [(0, vR 351), (1, vI 0), (2, vI 0)]) dX3_kinds_18 (Nat.le_of_ble_eq_true rfl) rfl ?_
    exact JW.pick [0, 1, 2] rfl K
  · have K := K.2 c_2
    refine JW.bipush dX3_kinds_12 rfl ?_
    exact JW.ireturn dX3_kinds_14 rfl rfl ⟨_, rfl, K⟩
theorem bX3_kinds_19 {Q : Option AV → MS → Prop} (b : AH) (s : MS) (x1 : Int) (x2 : Int) (f11 : Int → Int) (f12 : Int → Int) (f13 : Int → Int) (f14 : Int → Int) (f15 : Int → Int) (f16 : Int → Int) (f17 : Int → Int) (f18 : Int → Int) (f19 : Int → Int) (k0 : Int) (k25 : Int) (k33 : Int) (k34 : Int) (K : ((s.2 6 2) ≤ x2 → Q (some (vI x1)) (sS (sS (sS (sS (sA (sA (sA (sA (sA (sA (sA (sA (sA s 11 f11) 12 f12) 13 f13) 14 f14) 15 f15) 16 f16) 17 f17) 18 f18) 19 f19) 0 k0) 25 k25) 33 k33) 34 k34)) ∧ (¬ (s.2 6 2) ≤ x2 → (tOK (s.2 6) ∧ 0 ≤ x2 ∧ x2 ≤ 100000) ∧ ((∀ (f_3 : Int → Int), (¬ (upv ((s.2 6) 0) ((s.2 6) 1) x2) = x2 → HX3_kinds_19 Q b s (i32 (x1 + 0)) (i32 (x2 + 1)) (figs ((s.2 6) 0) ((s.2 6) 1) x2 f11) f_3 f13 f14 f15 f16 f17 f18 f19 k0 k25 k33 k34) ∧ ((upv ((s.2 6) 0) ((s.2 6) 1) x2) = x2 → HX3_kinds_19 Q b s (i32 (x1 + 1)) (i32 (x2 + 1)) (figs ((s.2 6) 0) ((s.2 6) 1) x2 f11) f_3 f13 f14 f15 f16 f17 f18 f19 k0 k25 k33 k34))))) : HX3_kinds_19 Q b s x1 x2 f11 f12 f13 f14 f15 f16 f17 f18 f19 k0 k25 k33 k34 := by
  refine JW.iload_n dX3_kinds_19 rfl ?_
  refine JW.aload_n dX3_kinds_20 rfl ?_
  refine JW.mget (v := vR 358) dX3_kinds_21 fX3_34 rfl ?_
  refine JW.iconst dX3_kinds_24 rfl ?_
  refine JW.mald 6 (x := (s.2 6 2)) dX3_kinds_25 (Nat.le_of_ble_eq_true rfl) rfl (by decide) (by decide) rfl ?_
  refine JW.icmp_ge (tgt := 52) dX3_kinds_26 rfl (fun c_1 => ?_) (fun c_1 => ?_)
  · have K := K.1 c_1
    refine JW.iload_n dX3_kinds_52 rfl ?_
    exact JW.ireturn dX3_kinds_53 rfl rfl ⟨_, rfl, K⟩
  · have K := K.2 c_1
    refine JW.iload_n dX3_kinds_29 rfl ?_
    refine JW.aload_n dX3_kinds_30 rfl ?_
    refine JW.iload_n dX3_kinds_31 rfl ?_
    obtain ⟨o_2, K⟩ := K
    refine JW.mcall (As := [vI x2]) dX3_kinds_32 vX3_up rfl q1834 (ctX3_up b (sS (sS (sS (sS (sA (sA (sA (sA (sA (sA (sA (sA (sA s 11 f11) 12 f12) 13 f13) 14 f14) 15 f15) 16 f16) 17 f17) 18 f18) 19 f19) 0 k0) 25 k25) 33 k33) 34 k34) x2 o_2) (Nat.le_of_ble_eq_true rfl) rfl (Nat.le_of_ble_eq_true rfl) ?_
    rintro _ _ ⟨f_3, rfl, rfl⟩
    refine JW.steq (s2 := sS (sS (sS (sS (sA (sA (sA (sA (sA (sA (sA (sA (sA s 11 (figs ((s.2 6) 0) ((s.2 6) 1) x2 f11)) 12 f_3) 13 f13) 14 f14) 15 f15) 16 f16) 17 f17) 18 f18) 19 f19) 0 k0) 25 k25) 33 k33) 34 k34) (by simp only [sA_A, sS_S, sA_S, sA_lt, sS_lt, Nat.reduceLT, id_eq] <;> rfl) ?_
    replace K := K f_3
    refine JW.iload_n dX3_kinds_35 rfl ?_
    refine JW.icmp_ne (tgt := 43) dX3_kinds_36 rfl (fun c_5 => ?_) (fun c_5 => ?_)
    · have K := K.1 c_5
      refine JW.iconst dX3_kinds_43 rfl ?_
      refine JW.iadd dX3_kinds_44 ?_
      refine JW.istore_n (ls' := [(0, vR 351), (1, vI (i32 (x1 + 0))), (2, vI x2)]) dX3_kinds_45 (Nat.le_of_ble_eq_true rfl) rfl ?_
      refine JW.iinc (ls' := [(0, vR 351), (1, vI (i32 (x1 + 0))), (2, vI (i32 (x2 + 1)))]) dX3_kinds_46 (Nat.le_of_ble_eq_true rfl) rfl rfl ?_
      refine JW.goto (tgt := 19) dX3_kinds_49 rfl ?_
      exact JW.pick [0, 1, 2] rfl K
    · have K := K.2 c_5
      refine JW.iconst dX3_kinds_39 rfl ?_
      refine JW.goto (tgt := 44) dX3_kinds_40 rfl ?_
      refine JW.iadd dX3_kinds_44 ?_
      refine JW.istore_n (ls' := [(0, vR 351), (1, vI (i32 (x1 + 1))), (2, vI x2)]) dX3_kinds_45 (Nat.le_of_ble_eq_true rfl) rfl ?_
      refine JW.iinc (ls' := [(0, vR 351), (1, vI (i32 (x1 + 1))), (2, vI (i32 (x2 + 1)))]) dX3_kinds_46 (Nat.le_of_ble_eq_true rfl) rfl rfl ?_
      refine JW.goto (tgt := 19) dX3_kinds_49 rfl ?_
      exact JW.pick [0, 1, 2] rfl K
def QX3_kinds (s : MS) : Option AV → MS → Prop := fun v s' => ∃ (f11 : Int → Int) (f12 : Int → Int) (f13 : Int → Int) (f14 : Int → Int) (f15 : Int → Int) (f16 : Int → Int) (f17 : Int → Int) (f18 : Int → Int) (f19 : Int → Int) (k25 : Int) (k33 : Int) (k34 : Int), v = some (vI (rKinds ((s.2 5) 0) (s.2 6))) ∧ s' = sS (sS (sS (sS (sA (sA (sA (sA (sA (sA (sA (sA (sA s 11 f11) 12 f12) 13 f13) 14 f14) 15 f15) 16 f16) 17 f17) 18 f18) 19 f19) 0 (0)) 25 k25) 33 k33) 34 k34
theorem vX3_kinds_1 (s : MS) (hp : tOK (s.2 6)) (x1 : Int) (x2 : Int) (f11 : Int → Int) (f12 : Int → Int) (f13 : Int → Int) (f14 : Int → Int) (f15 : Int → Int) (f16 : Int → Int) (f17 : Int → Int) (f18 : Int → Int) (f19 : Int → Int) (k0 : Int) (k25 : Int) (k33 : Int) (k34 : Int) (hI : k0 = 0 ∧ 0 < s.2 5 0 ∧ (0 ≤ x2 ∧ x2 ≤ s.2 6 2) ∧ x1 = many (fun x => upv (s.2 6 0) (s.2 6 1) x = x) x2.toNat) (c_1 : (s.2 6 2) ≤ x2) : k0 = (0) := by
  have hN := tOK_N hp
  (try have hb := many_b (fun x => upv (s.2 6 0) (s.2 6 1) x = x) x2.toNat)
  (try unfold lex3)
  (try simp only [bI_0, bI_n, Classical.not_not] at *)
  (try simp (disch := omega) only [i32_id] at *)
  first | done | omega | ((repeat' (with_reducible apply And.intro)) <;> first | assumption | rfl | omega | (exact hI.1) | (unfold rKinds; rw [if_neg (by omega)]) | (unfold rKinds; rw [if_pos (by omega), hI.2.2.2, show x2 = s.2 6 2 by omega]) | (have h9 := many_t (p := fun x => upv (s.2 6 0) (s.2 6 1) x = x) (k := x2) (by omega) (by assumption); omega) | (have h9 := many_f (p := fun x => upv (s.2 6 0) (s.2 6 1) x = x) (k := x2) (by omega) (by assumption); omega) | (have h9 : many (fun x => upv (s.2 6 0) (s.2 6 1) x = x) (0 : Int).toNat = 0 := rfl; omega) | grind [upI])
theorem vX3_kinds_2 (s : MS) (hp : tOK (s.2 6)) (x1 : Int) (x2 : Int) (f11 : Int → Int) (f12 : Int → Int) (f13 : Int → Int) (f14 : Int → Int) (f15 : Int → Int) (f16 : Int → Int) (f17 : Int → Int) (f18 : Int → Int) (f19 : Int → Int) (k0 : Int) (k25 : Int) (k33 : Int) (k34 : Int) (hI : k0 = 0 ∧ 0 < s.2 5 0 ∧ (0 ≤ x2 ∧ x2 ≤ s.2 6 2) ∧ x1 = many (fun x => upv (s.2 6 0) (s.2 6 1) x = x) x2.toNat) (c_1 : (s.2 6 2) ≤ x2) : x1 = (rKinds ((s.2 5) 0) (s.2 6)) := by
  have hN := tOK_N hp
  (try have hb := many_b (fun x => upv (s.2 6 0) (s.2 6 1) x = x) x2.toNat)
  (try unfold lex3)
  (try simp only [bI_0, bI_n, Classical.not_not] at *)
  (try simp (disch := omega) only [i32_id] at *)
  first | done | omega | ((repeat' (with_reducible apply And.intro)) <;> first | assumption | rfl | omega | (exact hI.1) | (unfold rKinds; rw [if_neg (by omega)]) | (unfold rKinds; rw [if_pos (by omega), hI.2.2.2, show x2 = s.2 6 2 by omega]) | (have h9 := many_t (p := fun x => upv (s.2 6 0) (s.2 6 1) x = x) (k := x2) (by omega) (by assumption); omega) | (have h9 := many_f (p := fun x => upv (s.2 6 0) (s.2 6 1) x = x) (k := x2) (by omega) (by assumption); omega) | (have h9 : many (fun x => upv (s.2 6 0) (s.2 6 1) x = x) (0 : Int).toNat = 0 := rfl; omega) | grind [upI])
theorem vX3_kinds_3 (s : MS) (hp : tOK (s.2 6)) (x1 : Int) (x2 : Int) (f11 : Int → Int) (f12 : Int → Int) (f13 : Int → Int) (f14 : Int → Int) (f15 : Int → Int) (f16 : Int → Int) (f17 : Int → Int) (f18 : Int → Int) (f19 : Int → Int) (k0 : Int) (k25 : Int) (k33 : Int) (k34 : Int) (hI : k0 = 0 ∧ 0 < s.2 5 0 ∧ (0 ≤ x2 ∧ x2 ≤ s.2 6 2) ∧ x1 = many (fun x => upv (s.2 6 0) (s.2 6 1) x = x) x2.toNat) (c_1 : ¬ (s.2 6 2) ≤ x2) : (tOK (s.2 6) ∧ 0 ≤ x2 ∧ x2 ≤ 100000) := by
  have hN := tOK_N hp
  (try have hb := many_b (fun x => upv (s.2 6 0) (s.2 6 1) x = x) x2.toNat)
  (try unfold lex3)
  (try simp only [bI_0, bI_n, Classical.not_not] at *)
  (try simp (disch := omega) only [i32_id] at *)
  first | done | omega | ((repeat' (with_reducible apply And.intro)) <;> first | assumption | rfl | omega | (exact hI.1) | (unfold rKinds; rw [if_neg (by omega)]) | (unfold rKinds; rw [if_pos (by omega), hI.2.2.2, show x2 = s.2 6 2 by omega]) | (have h9 := many_t (p := fun x => upv (s.2 6 0) (s.2 6 1) x = x) (k := x2) (by omega) (by assumption); omega) | (have h9 := many_f (p := fun x => upv (s.2 6 0) (s.2 6 1) x = x) (k := x2) (by omega) (by assumption); omega) | (have h9 : many (fun x => upv (s.2 6 0) (s.2 6 1) x = x) (0 : Int).toNat = 0 := rfl; omega) | grind [upI])
theorem vX3_kinds_4 (s : MS) (hp : tOK (s.2 6)) (x1 : Int) (x2 : Int) (f11 : Int → Int) (f12 : Int → Int) (f13 : Int → Int) (f14 : Int → Int) (f15 : Int → Int) (f16 : Int → Int) (f17 : Int → Int) (f18 : Int → Int) (f19 : Int → Int) (k0 : Int) (k25 : Int) (k33 : Int) (k34 : Int) (hI : k0 = 0 ∧ 0 < s.2 5 0 ∧ (0 ≤ x2 ∧ x2 ≤ s.2 6 2) ∧ x1 = many (fun x => upv (s.2 6 0) (s.2 6 1) x = x) x2.toNat) (c_1 : ¬ (s.2 6 2) ≤ x2) (o_2 : (tOK (s.2 6) ∧ 0 ≤ x2 ∧ x2 ≤ 100000)) (f_3 : Int → Int) (c_5 : ¬ (upv ((s.2 6) 0) ((s.2 6) 1) x2) = x2) : k0 = 0 ∧ 0 < s.2 5 0 ∧ (0 ≤ (i32 (x2 + 1)) ∧ (i32 (x2 + 1)) ≤ s.2 6 2) ∧ (i32 (x1 + 0)) = many (fun x => upv (s.2 6 0) (s.2 6 1) x = x) (i32 (x2 + 1)).toNat := by
  have hN := tOK_N hp
  (try have hb := many_b (fun x => upv (s.2 6 0) (s.2 6 1) x = x) x2.toNat)
  (try unfold lex3)
  (try simp only [bI_0, bI_n, Classical.not_not] at *)
  (try simp (disch := omega) only [i32_id] at *)
  first | done | omega | ((repeat' (with_reducible apply And.intro)) <;> first | assumption | rfl | omega | (exact hI.1) | (unfold rKinds; rw [if_neg (by omega)]) | (unfold rKinds; rw [if_pos (by omega), hI.2.2.2, show x2 = s.2 6 2 by omega]) | (have h9 := many_t (p := fun x => upv (s.2 6 0) (s.2 6 1) x = x) (k := x2) (by omega) (by assumption); omega) | (have h9 := many_f (p := fun x => upv (s.2 6 0) (s.2 6 1) x = x) (k := x2) (by omega) (by assumption); omega) | (have h9 : many (fun x => upv (s.2 6 0) (s.2 6 1) x = x) (0 : Int).toNat = 0 := rfl; omega) | grind [upI])
theorem vX3_kinds_5 (s : MS) (hp : tOK (s.2 6)) (x1 : Int) (x2 : Int) (f11 : Int → Int) (f12 : Int → Int) (f13 : Int → Int) (f14 : Int → Int) (f15 : Int → Int) (f16 : Int → Int) (f17 : Int → Int) (f18 : Int → Int) (f19 : Int → Int) (k0 : Int) (k25 : Int) (k33 : Int) (k34 : Int) (hI : k0 = 0 ∧ 0 < s.2 5 0 ∧ (0 ≤ x2 ∧ x2 ≤ s.2 6 2) ∧ x1 = many (fun x => upv (s.2 6 0) (s.2 6 1) x = x) x2.toNat) (c_1 : ¬ (s.2 6 2) ≤ x2) (o_2 : (tOK (s.2 6) ∧ 0 ≤ x2 ∧ x2 ≤ 100000)) (f_3 : Int → Int) (c_5 : ¬ (upv ((s.2 6) 0) ((s.2 6) 1) x2) = x2) : lex3 0 0 ((s.2 6 2 - (i32 (x2 + 1))).toNat) 0 0 ((s.2 6 2 - x2).toNat) := by
  have hN := tOK_N hp
  (try have hb := many_b (fun x => upv (s.2 6 0) (s.2 6 1) x = x) x2.toNat)
  (try unfold lex3)
  (try simp only [bI_0, bI_n, Classical.not_not] at *)
  (try simp (disch := omega) only [i32_id] at *)
  first | done | omega | ((repeat' (with_reducible apply And.intro)) <;> first | assumption | rfl | omega | (exact hI.1) | (unfold rKinds; rw [if_neg (by omega)]) | (unfold rKinds; rw [if_pos (by omega), hI.2.2.2, show x2 = s.2 6 2 by omega]) | (have h9 := many_t (p := fun x => upv (s.2 6 0) (s.2 6 1) x = x) (k := x2) (by omega) (by assumption); omega) | (have h9 := many_f (p := fun x => upv (s.2 6 0) (s.2 6 1) x = x) (k := x2) (by omega) (by assumption); omega) | (have h9 : many (fun x => upv (s.2 6 0) (s.2 6 1) x = x) (0 : Int).toNat = 0 := rfl; omega) | grind [upI])
theorem vX3_kinds_6 (s : MS) (hp : tOK (s.2 6)) (x1 : Int) (x2 : Int) (f11 : Int → Int) (f12 : Int → Int) (f13 : Int → Int) (f14 : Int → Int) (f15 : Int → Int) (f16 : Int → Int) (f17 : Int → Int) (f18 : Int → Int) (f19 : Int → Int) (k0 : Int) (k25 : Int) (k33 : Int) (k34 : Int) (hI : k0 = 0 ∧ 0 < s.2 5 0 ∧ (0 ≤ x2 ∧ x2 ≤ s.2 6 2) ∧ x1 = many (fun x => upv (s.2 6 0) (s.2 6 1) x = x) x2.toNat) (c_1 : ¬ (s.2 6 2) ≤ x2) (o_2 : (tOK (s.2 6) ∧ 0 ≤ x2 ∧ x2 ≤ 100000)) (f_3 : Int → Int) (c_5 : (upv ((s.2 6) 0) ((s.2 6) 1) x2) = x2) : k0 = 0 ∧ 0 < s.2 5 0 ∧ (0 ≤ (i32 (x2 + 1)) ∧ (i32 (x2 + 1)) ≤ s.2 6 2) ∧ (i32 (x1 + 1)) = many (fun x => upv (s.2 6 0) (s.2 6 1) x = x) (i32 (x2 + 1)).toNat := by
  have hN := tOK_N hp
  (try have hb := many_b (fun x => upv (s.2 6 0) (s.2 6 1) x = x) x2.toNat)
  (try unfold lex3)
  (try simp only [bI_0, bI_n, Classical.not_not] at *)
  (try simp (disch := omega) only [i32_id] at *)
  first | done | omega | ((repeat' (with_reducible apply And.intro)) <;> first | assumption | rfl | omega | (exact hI.1) | (unfold rKinds; rw [if_neg (by omega)]) | (unfold rKinds; rw [if_pos (by omega), hI.2.2.2, show x2 = s.2 6 2 by omega]) | (have h9 := many_t (p := fun x => upv (s.2 6 0) (s.2 6 1) x = x) (k := x2) (by omega) (by assumption); omega) | (have h9 := many_f (p := fun x => upv (s.2 6 0) (s.2 6 1) x = x) (k := x2) (by omega) (by assumption); omega) | (have h9 : many (fun x => upv (s.2 6 0) (s.2 6 1) x = x) (0 : Int).toNat = 0 := rfl; omega) | grind [upI])
theorem vX3_kinds_7 (s : MS) (hp : tOK (s.2 6)) (x1 : Int) (x2 : Int) (f11 : Int → Int) (f12 : Int → Int) (f13 : Int → Int) (f14 : Int → Int) (f15 : Int → Int) (f16 : Int → Int) (f17 : Int → Int) (f18 : Int → Int) (f19 : Int → Int) (k0 : Int) (k25 : Int) (k33 : Int) (k34 : Int) (hI : k0 = 0 ∧ 0 < s.2 5 0 ∧ (0 ≤ x2 ∧ x2 ≤ s.2 6 2) ∧ x1 = many (fun x => upv (s.2 6 0) (s.2 6 1) x = x) x2.toNat) (c_1 : ¬ (s.2 6 2) ≤ x2) (o_2 : (tOK (s.2 6) ∧ 0 ≤ x2 ∧ x2 ≤ 100000)) (f_3 : Int → Int) (c_5 : (upv ((s.2 6) 0) ((s.2 6) 1) x2) = x2) : lex3 0 0 ((s.2 6 2 - (i32 (x2 + 1))).toNat) 0 0 ((s.2 6 2 - x2).toNat) := by
  have hN := tOK_N hp
  (try have hb := many_b (fun x => upv (s.2 6 0) (s.2 6 1) x = x) x2.toNat)
  (try unfold lex3)
  (try simp only [bI_0, bI_n, Classical.not_not] at *)
  (try simp (disch := omega) only [i32_id] at *)
  first | done | omega | ((repeat' (with_reducible apply And.intro)) <;> first | assumption | rfl | omega | (exact hI.1) | (unfold rKinds; rw [if_neg (by omega)]) | (unfold rKinds; rw [if_pos (by omega), hI.2.2.2, show x2 = s.2 6 2 by omega]) | (have h9 := many_t (p := fun x => upv (s.2 6 0) (s.2 6 1) x = x) (k := x2) (by omega) (by assumption); omega) | (have h9 := many_f (p := fun x => upv (s.2 6 0) (s.2 6 1) x = x) (k := x2) (by omega) (by assumption); omega) | (have h9 : many (fun x => upv (s.2 6 0) (s.2 6 1) x = x) (0 : Int).toNat = 0 := rfl; omega) | grind [upI])
theorem vX3_kinds_8 (s : MS) (hp : tOK (s.2 6)) (c_2 : ¬ (bI (0 < (s.2 5) 0)) = 0) : (0 : Int) = 0 ∧ 0 < s.2 5 0 ∧ (0 ≤ (0 : Int) ∧ (0 : Int) ≤ s.2 6 2) ∧ (0 : Int) = many (fun x => upv (s.2 6 0) (s.2 6 1) x = x) (0 : Int).toNat := by
  have hN := tOK_N hp
  (try have hb := many_b (fun x => upv (s.2 6 0) (s.2 6 1) x = x) x2.toNat)
  (try unfold lex3)
  (try simp only [bI_0, bI_n, Classical.not_not] at *)
  (try simp (disch := omega) only [i32_id] at *)
  first | done | omega | ((repeat' (with_reducible apply And.intro)) <;> first | assumption | rfl | omega | (exact hI.1) | (unfold rKinds; rw [if_neg (by omega)]) | (unfold rKinds; rw [if_pos (by omega), hI.2.2.2, show x2 = s.2 6 2 by omega]) | (have h9 := many_t (p := fun x => upv (s.2 6 0) (s.2 6 1) x = x) (k := x2) (by omega) (by assumption); omega) | (have h9 := many_f (p := fun x => upv (s.2 6 0) (s.2 6 1) x = x) (k := x2) (by omega) (by assumption); omega) | (have h9 : many (fun x => upv (s.2 6 0) (s.2 6 1) x = x) (0 : Int).toNat = 0 := rfl; omega) | grind [upI])
theorem vX3_kinds_9 (s : MS) (hp : tOK (s.2 6)) (c_2 : (bI (0 < (s.2 5) 0)) = 0) : (-2) = (rKinds ((s.2 5) 0) (s.2 6)) := by
  have hN := tOK_N hp
  (try have hb := many_b (fun x => upv (s.2 6 0) (s.2 6 1) x = x) x2.toNat)
  (try unfold lex3)
  (try simp only [bI_0, bI_n, Classical.not_not] at *)
  (try simp (disch := omega) only [i32_id] at *)
  first | done | omega | ((repeat' (with_reducible apply And.intro)) <;> first | assumption | rfl | omega | (exact hI.1) | (unfold rKinds; rw [if_neg (by omega)]) | (unfold rKinds; rw [if_pos (by omega), hI.2.2.2, show x2 = s.2 6 2 by omega]) | (have h9 := many_t (p := fun x => upv (s.2 6 0) (s.2 6 1) x = x) (k := x2) (by omega) (by assumption); omega) | (have h9 := many_f (p := fun x => upv (s.2 6 0) (s.2 6 1) x = x) (k := x2) (by omega) (by assumption); omega) | (have h9 : many (fun x => upv (s.2 6 0) (s.2 6 1) x = x) (0 : Int).toNat = 0 := rfl; omega) | grind [upI])
theorem allX3_kinds (b : AH) (s : MS) (hp : tOK (s.2 6)) : ∀ m1 m2 m3 : Nat, (∀ (x1 : Int) (x2 : Int) (f11 : Int → Int) (f12 : Int → Int) (f13 : Int → Int) (f14 : Int → Int) (f15 : Int → Int) (f16 : Int → Int) (f17 : Int → Int) (f18 : Int → Int) (f19 : Int → Int) (k0 : Int) (k25 : Int) (k33 : Int) (k34 : Int), m1 = 0 → m2 = 0 → m3 = ((s.2 6 2 - x2).toNat) → (k0 = 0 ∧ 0 < s.2 5 0 ∧ (0 ≤ x2 ∧ x2 ≤ s.2 6 2) ∧ x1 = many (fun x => upv (s.2 6 0) (s.2 6 1) x = x) x2.toNat) → HX3_kinds_19 (QX3_kinds s) b s x1 x2 f11 f12 f13 f14 f15 f16 f17 f18 f19 k0 k25 k33 k34) := by
  refine lex3_ind ?_
  intro m1 m2 m3 ih
  rintro x1 x2 f11 f12 f13 f14 f15 f16 f17 f18 f19 k0 k25 k33 k34 rfl rfl rfl hI
  refine bX3_kinds_19 b s x1 x2 f11 f12 f13 f14 f15 f16 f17 f18 f19 k0 k25 k33 k34 ?_
  refine ⟨fun c_1 => ?_, fun c_1 => ?_⟩
  · exact ⟨f11, f12, f13, f14, f15, f16, f17, f18, f19, k25, k33, k34, (rI_c (vX3_kinds_2 s hp x1 x2 f11 f12 f13 f14 f15 f16 f17 f18 f19 k0 k25 k33 k34 hI c_1)), (sS_c (sS_c (sS_c (sS_c (sA_c (sA_c (sA_c (sA_c (sA_c (sA_c (sA_c (sA_c (sA_c rfl rfl) rfl) rfl) rfl) rfl) rfl) rfl) rfl) rfl) (vX3_kinds_1 s hp x1 x2 f11 f12 f13 f14 f15 f16 f17 f18 f19 k0 k25 k33 k34 hI c_1)) rfl) rfl) rfl)⟩
  · have o_2 : (tOK (s.2 6) ∧ 0 ≤ x2 ∧ x2 ≤ 100000) := (vX3_kinds_3 s hp x1 x2 f11 f12 f13 f14 f15 f16 f17 f18 f19 k0 k25 k33 k34 hI c_1)
    refine ⟨o_2, ?_⟩
    intro f_3
    refine ⟨fun c_5 => ?_, fun c_5 => ?_⟩
    · exact (ih _ _ _ (vX3_kinds_5 s hp x1 x2 f11 f12 f13 f14 f15 f16 f17 f18 f19 k0 k25 k33 k34 hI c_1 o_2 f_3 c_5)) (i32 (x1 + 0)) (i32 (x2 + 1)) (figs ((s.2 6) 0) ((s.2 6) 1) x2 f11) f_3 f13 f14 f15 f16 f17 f18 f19 k0 k25 k33 k34 rfl rfl rfl (vX3_kinds_4 s hp x1 x2 f11 f12 f13 f14 f15 f16 f17 f18 f19 k0 k25 k33 k34 hI c_1 o_2 f_3 c_5)
    · exact (ih _ _ _ (vX3_kinds_7 s hp x1 x2 f11 f12 f13 f14 f15 f16 f17 f18 f19 k0 k25 k33 k34 hI c_1 o_2 f_3 c_5)) (i32 (x1 + 1)) (i32 (x2 + 1)) (figs ((s.2 6) 0) ((s.2 6) 1) x2 f11) f_3 f13 f14 f15 f16 f17 f18 f19 k0 k25 k33 k34 rfl rfl rfl (vX3_kinds_6 s hp x1 x2 f11 f12 f13 f14 f15 f16 f17 f18 f19 k0 k25 k33 k34 hI c_1 o_2 f_3 c_5)
theorem ctX3_kinds (b : AH) (s : MS) (hp : tOK (s.2 6)) : MC mX3_kinds 8 b s [] (QX3_kinds s) := by
  refine MC.of (by decide) rfl (Nat.le_of_ble_eq_true rfl) (JW.steq (s2 := sS (sS (sS (sS (sA (sA (sA (sA (sA (sA (sA (sA (sA s 11 (s.2 11)) 12 (s.2 12)) 13 (s.2 13)) 14 (s.2 14)) 15 (s.2 15)) 16 (s.2 16)) 17 (s.2 17)) 18 (s.2 18)) 19 (s.2 19)) 0 (s.1 0)) 25 (s.1 25)) 33 (s.1 33)) 34 (s.1 34)) (by simp only [sA_id, sS_id]) ?_)
  refine bX3_kinds_0 b s (s.2 11) (s.2 12) (s.2 13) (s.2 14) (s.2 15) (s.2 16) (s.2 17) (s.2 18) (s.2 19) (s.1 0) (s.1 25) (s.1 33) (s.1 34) ?_
  refine ⟨fun c_2 => ?_, fun c_2 => ?_⟩
  · exact (allX3_kinds b s hp _ _ _) 0 0 (s.2 11) (s.2 12) (s.2 13) (s.2 14) (s.2 15) (s.2 16) (s.2 17) (s.2 18) (s.2 19) 0 (s.1 25) (s.1 33) (s.1 34) rfl rfl rfl (vX3_kinds_8 s hp c_2)
  · exact ⟨(s.2 11), (s.2 12), (s.2 13), (s.2 14), (s.2 15), (s.2 16), (s.2 17), (s.2 18), (s.2 19), (s.1 25), (s.1 33), (s.1 34), (rI_c (vX3_kinds_9 s hp c_2)), rfl⟩
def HX3_kind_0 (Q : Option AV → MS → Prop) (b : AH) (s : MS) (x1 : Int) (x2 : Int) (f11 : Int → Int) (f12 : Int → Int) (f13 : Int → Int) (f14 : Int → Int) (f15 : Int → Int) (f16 : Int → Int) (f17 : Int → Int) (f18 : Int → Int) (f19 : Int → Int) (k0 : Int) (k25 : Int) (k33 : Int) (k34 : Int) : Prop := MW mX3_kind 8 Q b 0 [(0, vR 351), (1, vI x1), (2, vI x2)] [] (sS (sS (sS (sS (sA (sA (sA (sA (sA (sA (sA (sA (sA s 11 f11) 12 f12) 13 f13) 14 f14) 15 f15) 16 f16) 17 f17) 18 f18) 19 f19) 0 k0) 25 k25) 33 k33) 34 k34)
def HX3_kind_45 (Q : Option AV → MS → Prop) (b : AH) (s : MS) (x3 : Int) (x4 : Int) (x5 : Int) (f11 : Int → Int) (f12 : Int → Int) (f13 : Int → Int) (f14 : Int → Int) (f15 : Int → Int) (f16 : Int → Int) (f17 : Int → Int) (f18 : Int → Int) (f19 : Int → Int) (k0 : Int) (k25 : Int) (k33 : Int) (k34 : Int) : Prop := MW mX3_kind 8 Q b 45 [(0, vR 351), (3, vI x3), (4, vI x4), (5, vI x5)] [] (sS (sS (sS (sS (sA (sA (sA (sA (sA (sA (sA (sA (sA s 11 f11) 12 f12) 13 f13) 14 f14) 15 f15) 16 f16) 17 f17) 18 f18) 19 f19) 0 k0) 25 k25) 33 k33) 34 k34)
theorem bX3_kind_0 {Q : Option AV → MS → Prop} (b : AH) (s : MS) (x1 : Int) (x2 : Int) (f11 : Int → Int) (f12 : Int → Int) (f13 : Int → Int) (f14 : Int → Int) (f15 : Int → Int) (f16 : Int → Int) (f17 : Int → Int) (f18 : Int → Int) (f19 : Int → Int) (k0 : Int) (k25 : Int) (k33 : Int) (k34 : Int) (K : (tOK (s.2 6)) ∧ (((bI (0 ≤ x1 ∧ x1 < (s.2 6) 2)) = 0 → Q (some (vI (-2))) (sS (sS (sS (sS (sA (sA (sA (sA (sA (sA (sA (sA (sA s 11 f11) 12 f12) 13 f13) 14 f14) 15 f15) 16 f16) 17 f17) 18 f18) 19 f19) 0 0) 25 k25) 33 k33) 34 k34)) ∧ (¬ (bI (0 ≤ x1 ∧ x1 < (s.2 6) 2)) = 0 → (¬ (bI ((0 : Int) ≤ x2 ∧ x2 ≤ (1 : Int))) = 0 → (tOK (s.2 6) ∧ 0 ≤ x1 ∧ x1 ≤ 100000) ∧ ((∀ (f_7 : Int → Int), (¬ x2 = 0 → HX3_kind_45 Q b s (upv ((s.2 6) 0) ((s.2 6) 1) x1) 0 0 (figs ((s.2 6) 0) ((s.2 6) 1) x1 f11) f_7 f13 f14 f15 f16 f17 f18 f19 0 k25 k33 k34) ∧ (x2 = 0 → Q (some (vI (upv ((s.2 6) 0) ((s.2 6) 1) x1))) (sS (sS (sS (sS (sA (sA (sA (sA (sA (sA (sA (sA (sA s 11 (figs ((s.2 6) 0) ((s.2 6) 1) x1 f11)) 12 f_7) 13 f13) 14 f14) 15 f15) 16 f16) 17 f17) 18 f18) 19 f19) 0 0) 25 k25) 33 k33) 34 k34))))) ∧ ((bI ((0 : Int) ≤ x2 ∧ x2 ≤ (1 : Int))) = 0 → Q (some (vI (-2))) (sS (sS (sS (sS (sA (sA (sA (sA (sA (sA (sA (sA (sA s 11 f11) 12 f12) 13 f13) 14 f14) 15 f15) 16 f16) 17 f17) 18 f18) 19 f19) 0 0) 25 k25) 33 k33) 34 k34))))) : HX3_kind_0 Q b s x1 x2 f11 f12 f13 f14 f15 f16 f17 f18 f19 k0 k25 k33 k34 := by
  refine JW.aload_n dX3_kind_0 rfl ?_
  refine JW.iconst dX3_kind_1 rfl ?_
  refine JW.mputI dX3_kind_2 (pX3_77 _) rfl ?_
  refine JW.steq (s2 := sS (sS (sS (sS (sA (sA (sA (sA (sA (sA (sA (sA (sA s 11 f11) 12 f12) 13 f13) 14 f14) 15 f15) 16 f16) 17 f17) 18 f18) 19 f19) 0 0) 25 k25) 33 k33) 34 k34) (by simp only [sA_A, sS_S, sA_S, sA_lt, sS_lt, Nat.reduceLT, id_eq] <;> rfl) ?_
  refine JW.aload_n dX3_kind_5 rfl ?_
  refine JW.iload_n dX3_kind_6 rfl ?_
  refine JW.i2l dX3_kind_7 ?_
  obtain ⟨o_1, K⟩ := K
  refine JW.mcall (As := [vL x1]) dX3_kind_8 vX3_isNumber rfl q1806 (ctX3_isNumber b (sS (sS (sS (sS (sA (sA (sA (sA (sA (sA (sA (sA (sA s 11 f11) 12 f12) 13 f13) 14 f14) 15 f15) 16 f16) 17 f17) 18 f18) 19 f19) 0 0) 25 k25) 33 k33) 34 k34) x1 o_1) (Nat.le_of_ble_eq_true rfl) rfl (Nat.le_of_ble_eq_true rfl) ?_
  rintro _ _ ⟨rfl, eq_2⟩
  refine JW.steq (s2 := sS (sS (sS (sS (sA (sA (sA (sA (sA (sA (sA (sA (sA s 11 f11) 12 f12) 13 f13) 14 f14) 15 f15) 16 f16) 17 f17) 18 f18) 19 f19) 0 0) 25 k25) 33 k33) 34 k34) eq_2 ?_
  refine JW.if_eq (tgt := 24) dX3_kind_11 rfl (fun c_3 => ?_) (fun c_3 => ?_)
  · have K := K.1 c_3
    refine JW.bipush dX3_kind_24 rfl ?_
    exact JW.ireturn dX3_kind_26 rfl rfl ⟨_, rfl, K⟩
  · have K := K.2 c_3
    refine JW.iload_n dX3_kind_14 rfl ?_
    refine JW.i2l dX3_kind_15 ?_
    refine JW.lconst (x := 0) dX3_kind_16 rfl ?_
    refine JW.lconst (x := 1) dX3_kind_17 rfl ?_
    refine JW.mcallS (As := [vL x2, vL 0, vL 1]) dX3_kind_18 vX3_in q1632 (ctX3_in b (sS (sS (sS (sS (sA (sA (sA (sA (sA (sA (sA (sA (sA s 11 f11) 12 f12) 13 f13) 14 f14) 15 f15) 16 f16) 17 f17) 18 f18) 19 f19) 0 0) 25 k25) 33 k33) 34 k34) x2 0 1) (Nat.le_of_ble_eq_true rfl) rfl (Nat.le_of_ble_eq_true rfl) ?_
    rintro _ _ ⟨rfl, eq_4⟩
    refine JW.steq (s2 := sS (sS (sS (sS (sA (sA (sA (sA (sA (sA (sA (sA (sA s 11 f11) 12 f12) 13 f13) 14 f14) 15 f15) 16 f16) 17 f17) 18 f18) 19 f19) 0 0) 25 k25) 33 k33) 34 k34) eq_4 ?_
    refine JW.if_ne (tgt := 27) dX3_kind_21 rfl (fun c_5 => ?_) (fun c_5 => ?_)
    · have K := K.1 c_5
      refine JW.aload_n dX3_kind_27 rfl ?_
      refine JW.iload_n dX3_kind_28 rfl ?_
      obtain ⟨o_6, K⟩ := K
      refine JW.mcall (As := [vI x1]) dX3_kind_29 vX3_up rfl q1834 (ctX3_up b (sS (sS (sS (sS (sA (sA (sA (sA (sA (sA (sA (sA (sA s 11 f11) 12 f12) 13 f13) 14 f14) 15 f15) 16 f16) 17 f17) 18 f18) 19 f19) 0 0) 25 k25) 33 k33) 34 k34) x1 o_6) (Nat.le_of_ble_eq_true rfl) rfl (Nat.le_of_ble_eq_true rfl) ?_
      rintro _ _ ⟨f_7, rfl, rfl⟩
      refine JW.steq (s2 := sS (sS (sS (sS (sA (sA (sA (sA (sA (sA (sA (sA (sA s 11 (figs ((s.2 6) 0) ((s.2 6) 1) x1 f11)) 12 f_7) 13 f13) 14 f14) 15 f15) 16 f16) 17 f17) 18 f18) 19 f19) 0 0) 25 k25) 33 k33) 34 k34) (by simp only [sA_A, sS_S, sA_S, sA_lt, sS_lt, Nat.reduceLT, id_eq] <;> rfl) ?_
      replace K := K f_7
      refine JW.istore_n (ls' := [(0, vR 351), (1, vI x1), (2, vI x2), (3, vI (upv ((s.2 6) 0) ((s.2 6) 1) x1))]) dX3_kind_32 (Nat.le_of_ble_eq_true rfl) rfl ?_
      refine JW.iload_n dX3_kind_33 rfl ?_
      refine JW.if_ne (tgt := 39) dX3_kind_34 rfl (fun c_9 => ?_) (fun c_9 => ?_)
      · have K := K.1 c_9
        refine JW.iconst dX3_kind_39 rfl ?_
        refine JW.istore (ls' := [(0, vR 351), (1, vI x1), (2, vI x2), (3, vI (upv ((s.2 6) 0) ((s.2 6) 1) x1)), (4, vI 0)]) dX3_kind_40 (Nat.le_of_ble_eq_true rfl) rfl ?_
        refine JW.iconst dX3_kind_42 rfl ?_
        refine JW.istore (ls' := [(0, vR 351), (1, vI x1), (2, vI x2), (3, vI (upv ((s.2 6) 0) ((s.2 6) 1) x1)), (4, vI 0), (5, vI 0)]) dX3_kind_43 (Nat.le_of_ble_eq_true rfl) rfl ?_
        exact JW.pick [0, 3, 4, 5] rfl K
      · have K := K.2 c_9
        refine JW.iload_n dX3_kind_37 rfl ?_
        exact JW.ireturn dX3_kind_38 rfl rfl ⟨_, rfl, K⟩
    · have K := K.2 c_5
      refine JW.bipush dX3_kind_24 rfl ?_
      exact JW.ireturn dX3_kind_26 rfl rfl ⟨_, rfl, K⟩
theorem bX3_kind_45 {Q : Option AV → MS → Prop} (b : AH) (s : MS) (x3 : Int) (x4 : Int) (x5 : Int) (f11 : Int → Int) (f12 : Int → Int) (f13 : Int → Int) (f14 : Int → Int) (f15 : Int → Int) (f16 : Int → Int) (f17 : Int → Int) (f18 : Int → Int) (f19 : Int → Int) (k0 : Int) (k25 : Int) (k33 : Int) (k34 : Int) (K : ((s.2 6 2) ≤ x5 → Q (some (vI x4)) (sS (sS (sS (sS (sA (sA (sA (sA (sA (sA (sA (sA (sA s 11 f11) 12 f12) 13 f13) 14 f14) 15 f15) 16 f16) 17 f17) 18 f18) 19 f19) 0 k0) 25 k25) 33 k33) 34 k34)) ∧ (¬ (s.2 6 2) ≤ x5 → (tOK (s.2 6) ∧ 0 ≤ x5 ∧ x5 ≤ 100000) ∧ ((∀ (f_3 : Int → Int), (¬ (upv ((s.2 6) 0) ((s.2 6) 1) x5) = x3 → HX3_kind_45 Q b s x3 (i32 (x4 + 0)) (i32 (x5 + 1)) (figs ((s.2 6) 0) ((s.2 6) 1) x5 f11) f_3 f13 f14 f15 f16 f17 f18 f19 k0 k25 k33 k34) ∧ ((upv ((s.2 6) 0) ((s.2 6) 1) x5) = x3 → HX3_kind_45 Q b s x3 (i32 (x4 + 1)) (i32 (x5 + 1)) (figs ((s.2 6) 0) ((s.2 6) 1) x5 f11) f_3 f13 f14 f15 f16 f17 f18 f19 k0 k25 k33 k34))))) : HX3_kind_45 Q b s x3 x4 x5 f11 f12 f13 f14 f15 f16 f17 f18 f19 k0 k25 k33 k34 := by
  refine JW.iload dX3_kind_45 rfl ?_
  refine JW.aload_n dX3_kind_47 rfl ?_
  refine JW.mget (v := vR 358) dX3_kind_48 fX3_34 rfl ?_
  refine JW.iconst dX3_kind_51 rfl ?_
  refine JW.mald 6 (x := (s.2 6 2)) dX3_kind_52 (Nat.le_of_ble_eq_true rfl) rfl (by decide) (by decide) rfl ?_
  refine JW.icmp_ge (tgt := 82) dX3_kind_53 rfl (fun c_1 => ?_) (fun c_1 => ?_)
  · have K := K.1 c_1
    refine JW.iload dX3_kind_82 rfl ?_
    exact JW.ireturn dX3_kind_84 rfl rfl ⟨_, rfl, K⟩
  · have K := K.2 c_1
    refine JW.iload dX3_kind_56 rfl ?_
    refine JW.aload_n dX3_kind_58 rfl ?_
    refine JW.iload dX3_kind_59 rfl ?_
    obtain ⟨o_2, K⟩ := K
    refine JW.mcall (As := [vI x5]) dX3_kind_61 vX3_up rfl q1834 (ctX3_up b (sS (sS (sS (sS (sA (sA (sA (sA (sA (sA (sA (sA (sA s 11 f11) 12 f12) 13 f13) 14 f14) 15 f15) 16 f16) 17 f17) 18 f18) 19 f19) 0 k0) 25 k25) 33 k33) 34 k34) x5 o_2) (Nat.le_of_ble_eq_true rfl) rfl (Nat.le_of_ble_eq_true rfl) ?_
    rintro _ _ ⟨f_3, rfl, rfl⟩
    refine JW.steq (s2 := sS (sS (sS (sS (sA (sA (sA (sA (sA (sA (sA (sA (sA s 11 (figs ((s.2 6) 0) ((s.2 6) 1) x5 f11)) 12 f_3) 13 f13) 14 f14) 15 f15) 16 f16) 17 f17) 18 f18) 19 f19) 0 k0) 25 k25) 33 k33) 34 k34) (by simp only [sA_A, sS_S, sA_S, sA_lt, sS_lt, Nat.reduceLT, id_eq] <;> rfl) ?_
    replace K := K f_3
    refine JW.iload_n dX3_kind_64 rfl ?_
    refine JW.icmp_ne (tgt := 72) dX3_kind_65 rfl (fun c_5 => ?_) (fun c_5 => ?_)
    · have K := K.1 c_5
      refine JW.iconst dX3_kind_72 rfl ?_
      refine JW.iadd dX3_kind_73 ?_
      refine JW.istore (ls' := [(0, vR 351), (3, vI x3), (4, vI (i32 (x4 + 0))), (5, vI x5)]) dX3_kind_74 (Nat.le_of_ble_eq_true rfl) rfl ?_
      refine JW.iinc (ls' := [(0, vR 351), (3, vI x3), (4, vI (i32 (x4 + 0))), (5, vI (i32 (x5 + 1)))]) dX3_kind_76 (Nat.le_of_ble_eq_true rfl) rfl rfl ?_
      refine JW.goto (tgt := 45) dX3_kind_79 rfl ?_
      exact JW.pick [0, 3, 4, 5] rfl K
    · have K := K.2 c_5
      refine JW.iconst dX3_kind_68 rfl ?_
      refine JW.goto (tgt := 73) dX3_kind_69 rfl ?_
      refine JW.iadd dX3_kind_73 ?_
      refine JW.istore (ls' := [(0, vR 351), (3, vI x3), (4, vI (i32 (x4 + 1))), (5, vI x5)]) dX3_kind_74 (Nat.le_of_ble_eq_true rfl) rfl ?_
      refine JW.iinc (ls' := [(0, vR 351), (3, vI x3), (4, vI (i32 (x4 + 1))), (5, vI (i32 (x5 + 1)))]) dX3_kind_76 (Nat.le_of_ble_eq_true rfl) rfl rfl ?_
      refine JW.goto (tgt := 45) dX3_kind_79 rfl ?_
      exact JW.pick [0, 3, 4, 5] rfl K
def QX3_kind (s : MS) (a1 : Int) (a2 : Int) : Option AV → MS → Prop := fun v s' => ∃ (f11 : Int → Int) (f12 : Int → Int) (f13 : Int → Int) (f14 : Int → Int) (f15 : Int → Int) (f16 : Int → Int) (f17 : Int → Int) (f18 : Int → Int) (f19 : Int → Int) (k25 : Int) (k33 : Int) (k34 : Int), v = some (vI (rKind (s.2 6) a1 a2)) ∧ s' = sS (sS (sS (sS (sA (sA (sA (sA (sA (sA (sA (sA (sA s 11 f11) 12 f12) 13 f13) 14 f14) 15 f15) 16 f16) 17 f17) 18 f18) 19 f19) 0 (0)) 25 k25) 33 k33) 34 k34
theorem vX3_kind_1 (s : MS) (a1 : Int) (a2 : Int) (hp : tOK (s.2 6)) (x3 : Int) (x4 : Int) (x5 : Int) (f11 : Int → Int) (f12 : Int → Int) (f13 : Int → Int) (f14 : Int → Int) (f15 : Int → Int) (f16 : Int → Int) (f17 : Int → Int) (f18 : Int → Int) (f19 : Int → Int) (k0 : Int) (k25 : Int) (k33 : Int) (k34 : Int) (hI : k0 = 0 ∧ (0 ≤ a1 ∧ a1 < s.2 6 2 ∧ a2 = 1) ∧ x3 = upv (s.2 6 0) (s.2 6 1) a1 ∧ (0 ≤ x5 ∧ x5 ≤ s.2 6 2) ∧ x4 = many (fun y => upv (s.2 6 0) (s.2 6 1) y = upv (s.2 6 0) (s.2 6 1) a1) x5.toNat) (c_1 : (s.2 6 2) ≤ x5) : k0 = (0) := by
  have hN := tOK_N hp
  (try simp only [bI_0, bI_n, Classical.not_not] at *)
  (try have hb := many_b (fun y => upv (s.2 6 0) (s.2 6 1) y = upv (s.2 6 0) (s.2 6 1) a1) x5.toNat)
  (try unfold lex3)
  (try simp only [bI_0, bI_n, Classical.not_not] at *)
  (try simp (disch := omega) only [i32_id] at *)
  first | done | omega | ((repeat' (with_reducible apply And.intro)) <;> first | assumption | rfl | omega | (exact hI.1) | (unfold rKind; rw [if_neg (by omega)]) | (unfold rKind; rw [if_pos (by omega), if_pos (by omega)]) | (unfold rKind; rw [if_pos (by omega), if_neg (by omega), hI.2.2.2.2, show x5 = s.2 6 2 by omega]) | (have h9 := many_t (p := fun y => upv (s.2 6 0) (s.2 6 1) y = upv (s.2 6 0) (s.2 6 1) a1) (k := x5) (by omega) (by first | omega | (rw [← hI.2.2.1]; assumption)); omega) | (have h9 := many_f (p := fun y => upv (s.2 6 0) (s.2 6 1) y = upv (s.2 6 0) (s.2 6 1) a1) (k := x5) (by omega) (by first | omega | (rw [← hI.2.2.1]; assumption)); omega) | (have h9 : many (fun y => upv (s.2 6 0) (s.2 6 1) y = upv (s.2 6 0) (s.2 6 1) a1) (0 : Int).toNat = 0 := rfl; omega) | grind [upI])
theorem vX3_kind_2 (s : MS) (a1 : Int) (a2 : Int) (hp : tOK (s.2 6)) (x3 : Int) (x4 : Int) (x5 : Int) (f11 : Int → Int) (f12 : Int → Int) (f13 : Int → Int) (f14 : Int → Int) (f15 : Int → Int) (f16 : Int → Int) (f17 : Int → Int) (f18 : Int → Int) (f19 : Int → Int) (k0 : Int) (k25 : Int) (k33 : Int) (k34 : Int) (hI : k0 = 0 ∧ (0 ≤ a1 ∧ a1 < s.2 6 2 ∧ a2 = 1) ∧ x3 = upv (s.2 6 0) (s.2 6 1) a1 ∧ (0 ≤ x5 ∧ x5 ≤ s.2 6 2) ∧ x4 = many (fun y => upv (s.2 6 0) (s.2 6 1) y = upv (s.2 6 0) (s.2 6 1) a1) x5.toNat) (c_1 : (s.2 6 2) ≤ x5) : x4 = (rKind (s.2 6) a1 a2) := by
  have hN := tOK_N hp
  (try simp only [bI_0, bI_n, Classical.not_not] at *)
  (try have hb := many_b (fun y => upv (s.2 6 0) (s.2 6 1) y = upv (s.2 6 0) (s.2 6 1) a1) x5.toNat)
  (try unfold lex3)
  (try simp only [bI_0, bI_n, Classical.not_not] at *)
  (try simp (disch := omega) only [i32_id] at *)
  first | done | omega | ((repeat' (with_reducible apply And.intro)) <;> first | assumption | rfl | omega | (exact hI.1) | (unfold rKind; rw [if_neg (by omega)]) | (unfold rKind; rw [if_pos (by omega), if_pos (by omega)]) | (unfold rKind; rw [if_pos (by omega), if_neg (by omega), hI.2.2.2.2, show x5 = s.2 6 2 by omega]) | (have h9 := many_t (p := fun y => upv (s.2 6 0) (s.2 6 1) y = upv (s.2 6 0) (s.2 6 1) a1) (k := x5) (by omega) (by first | omega | (rw [← hI.2.2.1]; assumption)); omega) | (have h9 := many_f (p := fun y => upv (s.2 6 0) (s.2 6 1) y = upv (s.2 6 0) (s.2 6 1) a1) (k := x5) (by omega) (by first | omega | (rw [← hI.2.2.1]; assumption)); omega) | (have h9 : many (fun y => upv (s.2 6 0) (s.2 6 1) y = upv (s.2 6 0) (s.2 6 1) a1) (0 : Int).toNat = 0 := rfl; omega) | grind [upI])
theorem vX3_kind_3 (s : MS) (a1 : Int) (a2 : Int) (hp : tOK (s.2 6)) (x3 : Int) (x4 : Int) (x5 : Int) (f11 : Int → Int) (f12 : Int → Int) (f13 : Int → Int) (f14 : Int → Int) (f15 : Int → Int) (f16 : Int → Int) (f17 : Int → Int) (f18 : Int → Int) (f19 : Int → Int) (k0 : Int) (k25 : Int) (k33 : Int) (k34 : Int) (hI : k0 = 0 ∧ (0 ≤ a1 ∧ a1 < s.2 6 2 ∧ a2 = 1) ∧ x3 = upv (s.2 6 0) (s.2 6 1) a1 ∧ (0 ≤ x5 ∧ x5 ≤ s.2 6 2) ∧ x4 = many (fun y => upv (s.2 6 0) (s.2 6 1) y = upv (s.2 6 0) (s.2 6 1) a1) x5.toNat) (c_1 : ¬ (s.2 6 2) ≤ x5) : (tOK (s.2 6) ∧ 0 ≤ x5 ∧ x5 ≤ 100000) := by
  have hN := tOK_N hp
  (try simp only [bI_0, bI_n, Classical.not_not] at *)
  (try have hb := many_b (fun y => upv (s.2 6 0) (s.2 6 1) y = upv (s.2 6 0) (s.2 6 1) a1) x5.toNat)
  (try unfold lex3)
  (try simp only [bI_0, bI_n, Classical.not_not] at *)
  (try simp (disch := omega) only [i32_id] at *)
  first | done | omega | ((repeat' (with_reducible apply And.intro)) <;> first | assumption | rfl | omega | (exact hI.1) | (unfold rKind; rw [if_neg (by omega)]) | (unfold rKind; rw [if_pos (by omega), if_pos (by omega)]) | (unfold rKind; rw [if_pos (by omega), if_neg (by omega), hI.2.2.2.2, show x5 = s.2 6 2 by omega]) | (have h9 := many_t (p := fun y => upv (s.2 6 0) (s.2 6 1) y = upv (s.2 6 0) (s.2 6 1) a1) (k := x5) (by omega) (by first | omega | (rw [← hI.2.2.1]; assumption)); omega) | (have h9 := many_f (p := fun y => upv (s.2 6 0) (s.2 6 1) y = upv (s.2 6 0) (s.2 6 1) a1) (k := x5) (by omega) (by first | omega | (rw [← hI.2.2.1]; assumption)); omega) | (have h9 : many (fun y => upv (s.2 6 0) (s.2 6 1) y = upv (s.2 6 0) (s.2 6 1) a1) (0 : Int).toNat = 0 := rfl; omega) | grind [upI])
theorem vX3_kind_4 (s : MS) (a1 : Int) (a2 : Int) (hp : tOK (s.2 6)) (x3 : Int) (x4 : Int) (x5 : Int) (f11 : Int → Int) (f12 : Int → Int) (f13 : Int → Int) (f14 : Int → Int) (f15 : Int → Int) (f16 : Int → Int) (f17 : Int → Int) (f18 : Int → Int) (f19 : Int → Int) (k0 : Int) (k25 : Int) (k33 : Int) (k34 : Int) (hI : k0 = 0 ∧ (0 ≤ a1 ∧ a1 < s.2 6 2 ∧ a2 = 1) ∧ x3 = upv (s.2 6 0) (s.2 6 1) a1 ∧ (0 ≤ x5 ∧ x5 ≤ s.2 6 2) ∧ x4 = many (fun y => upv (s.2 6 0) (s.2 6 1) y = upv (s.2 6 0) (s.2 6 1) a1) x5.toNat) (c_1 : ¬ (s.2 6 2) ≤ x5) (o_2 : (tOK (s.2 6) ∧ 0 ≤ x5 ∧ x5 ≤ 100000)) (f_3 : Int → Int) (c_5 : ¬ (upv ((s.2 6) 0) ((s.2 6) 1) x5) = x3) : k0 = 0 ∧ (0 ≤ a1 ∧ a1 < s.2 6 2 ∧ a2 = 1) ∧ x3 = upv (s.2 6 0) (s.2 6 1) a1 ∧ (0 ≤ (i32 (x5 + 1)) ∧ (i32 (x5 + 1)) ≤ s.2 6 2) ∧ (i32 (x4 + 0)) = many (fun y => upv (s.2 6 0) (s.2 6 1) y = upv (s.2 6 0) (s.2 6 1) a1) (i32 (x5 + 1)).toNat := by
  have hN := tOK_N hp
  (try simp only [bI_0, bI_n, Classical.not_not] at *)
  (try have hb := many_b (fun y => upv (s.2 6 0) (s.2 6 1) y = upv (s.2 6 0) (s.2 6 1) a1) x5.toNat)
  (try unfold lex3)
  (try simp only [bI_0, bI_n, Classical.not_not] at *)
  (try simp (disch := omega) only [i32_id] at *)
  first | done | omega | ((repeat' (with_reducible apply And.intro)) <;> first | assumption | rfl | omega | (exact hI.1) | (unfold rKind; rw [if_neg (by omega)]) | (unfold rKind; rw [if_pos (by omega), if_pos (by omega)]) | (unfold rKind; rw [if_pos (by omega), if_neg (by omega), hI.2.2.2.2, show x5 = s.2 6 2 by omega]) | (have h9 := many_t (p := fun y => upv (s.2 6 0) (s.2 6 1) y = upv (s.2 6 0) (s.2 6 1) a1) (k := x5) (by omega) (by first | omega | (rw [← hI.2.2.1]; assumption)); omega) | (have h9 := many_f (p := fun y => upv (s.2 6 0) (s.2 6 1) y = upv (s.2 6 0) (s.2 6 1) a1) (k := x5) (by omega) (by first | omega | (rw [← hI.2.2.1]; assumption)); omega) | (have h9 : many (fun y => upv (s.2 6 0) (s.2 6 1) y = upv (s.2 6 0) (s.2 6 1) a1) (0 : Int).toNat = 0 := rfl; omega) | grind [upI])
theorem vX3_kind_5 (s : MS) (a1 : Int) (a2 : Int) (hp : tOK (s.2 6)) (x3 : Int) (x4 : Int) (x5 : Int) (f11 : Int → Int) (f12 : Int → Int) (f13 : Int → Int) (f14 : Int → Int) (f15 : Int → Int) (f16 : Int → Int) (f17 : Int → Int) (f18 : Int → Int) (f19 : Int → Int) (k0 : Int) (k25 : Int) (k33 : Int) (k34 : Int) (hI : k0 = 0 ∧ (0 ≤ a1 ∧ a1 < s.2 6 2 ∧ a2 = 1) ∧ x3 = upv (s.2 6 0) (s.2 6 1) a1 ∧ (0 ≤ x5 ∧ x5 ≤ s.2 6 2) ∧ x4 = many (fun y => upv (s.2 6 0) (s.2 6 1) y = upv (s.2 6 0) (s.2 6 1) a1) x5.toNat) (c_1 : ¬ (s.2 6 2) ≤ x5) (o_2 : (tOK (s.2 6) ∧ 0 ≤ x5 ∧ x5 ≤ 100000)) (f_3 : Int → Int) (c_5 : ¬ (upv ((s.2 6) 0) ((s.2 6) 1) x5) = x3) : lex3 0 0 ((s.2 6 2 - (i32 (x5 + 1))).toNat) 0 0 ((s.2 6 2 - x5).toNat) := by
  have hN := tOK_N hp
  (try simp only [bI_0, bI_n, Classical.not_not] at *)
  (try have hb := many_b (fun y => upv (s.2 6 0) (s.2 6 1) y = upv (s.2 6 0) (s.2 6 1) a1) x5.toNat)
  (try unfold lex3)
  (try simp only [bI_0, bI_n, Classical.not_not] at *)
  (try simp (disch := omega) only [i32_id] at *)
  first | done | omega | ((repeat' (with_reducible apply And.intro)) <;> first | assumption | rfl | omega | (exact hI.1) | (unfold rKind; rw [if_neg (by omega)]) | (unfold rKind; rw [if_pos (by omega), if_pos (by omega)]) | (unfold rKind; rw [if_pos (by omega), if_neg (by omega), hI.2.2.2.2, show x5 = s.2 6 2 by omega]) | (have h9 := many_t (p := fun y => upv (s.2 6 0) (s.2 6 1) y = upv (s.2 6 0) (s.2 6 1) a1) (k := x5) (by omega) (by first | omega | (rw [← hI.2.2.1]; assumption)); omega) | (have h9 := many_f (p := fun y => upv (s.2 6 0) (s.2 6 1) y = upv (s.2 6 0) (s.2 6 1) a1) (k := x5) (by omega) (by first | omega | (rw [← hI.2.2.1]; assumption)); omega) | (have h9 : many (fun y => upv (s.2 6 0) (s.2 6 1) y = upv (s.2 6 0) (s.2 6 1) a1) (0 : Int).toNat = 0 := rfl; omega) | grind [upI])
theorem vX3_kind_6 (s : MS) (a1 : Int) (a2 : Int) (hp : tOK (s.2 6)) (x3 : Int) (x4 : Int) (x5 : Int) (f11 : Int → Int) (f12 : Int → Int) (f13 : Int → Int) (f14 : Int → Int) (f15 : Int → Int) (f16 : Int → Int) (f17 : Int → Int) (f18 : Int → Int) (f19 : Int → Int) (k0 : Int) (k25 : Int) (k33 : Int) (k34 : Int) (hI : k0 = 0 ∧ (0 ≤ a1 ∧ a1 < s.2 6 2 ∧ a2 = 1) ∧ x3 = upv (s.2 6 0) (s.2 6 1) a1 ∧ (0 ≤ x5 ∧ x5 ≤ s.2 6 2) ∧ x4 = many (fun y => upv (s.2 6 0) (s.2 6 1) y = upv (s.2 6 0) (s.2 6 1) a1) x5.toNat) (c_1 : ¬ (s.2 6 2) ≤ x5) (o_2 : (tOK (s.2 6) ∧ 0 ≤ x5 ∧ x5 ≤ 100000)) (f_3 : Int → Int) (c_5 : (upv ((s.2 6) 0) ((s.2 6) 1) x5) = x3) : k0 = 0 ∧ (0 ≤ a1 ∧ a1 < s.2 6 2 ∧ a2 = 1) ∧ x3 = upv (s.2 6 0) (s.2 6 1) a1 ∧ (0 ≤ (i32 (x5 + 1)) ∧ (i32 (x5 + 1)) ≤ s.2 6 2) ∧ (i32 (x4 + 1)) = many (fun y => upv (s.2 6 0) (s.2 6 1) y = upv (s.2 6 0) (s.2 6 1) a1) (i32 (x5 + 1)).toNat := by
  have hN := tOK_N hp
  (try simp only [bI_0, bI_n, Classical.not_not] at *)
  (try have hb := many_b (fun y => upv (s.2 6 0) (s.2 6 1) y = upv (s.2 6 0) (s.2 6 1) a1) x5.toNat)
  (try unfold lex3)
  (try simp only [bI_0, bI_n, Classical.not_not] at *)
  (try simp (disch := omega) only [i32_id] at *)
  first | done | omega | ((repeat' (with_reducible apply And.intro)) <;> first | assumption | rfl | omega | (exact hI.1) | (unfold rKind; rw [if_neg (by omega)]) | (unfold rKind; rw [if_pos (by omega), if_pos (by omega)]) | (unfold rKind; rw [if_pos (by omega), if_neg (by omega), hI.2.2.2.2, show x5 = s.2 6 2 by omega]) | (have h9 := many_t (p := fun y => upv (s.2 6 0) (s.2 6 1) y = upv (s.2 6 0) (s.2 6 1) a1) (k := x5) (by omega) (by first | omega | (rw [← hI.2.2.1]; assumption)); omega) | (have h9 := many_f (p := fun y => upv (s.2 6 0) (s.2 6 1) y = upv (s.2 6 0) (s.2 6 1) a1) (k := x5) (by omega) (by first | omega | (rw [← hI.2.2.1]; assumption)); omega) | (have h9 : many (fun y => upv (s.2 6 0) (s.2 6 1) y = upv (s.2 6 0) (s.2 6 1) a1) (0 : Int).toNat = 0 := rfl; omega) | grind [upI])
theorem vX3_kind_7 (s : MS) (a1 : Int) (a2 : Int) (hp : tOK (s.2 6)) (x3 : Int) (x4 : Int) (x5 : Int) (f11 : Int → Int) (f12 : Int → Int) (f13 : Int → Int) (f14 : Int → Int) (f15 : Int → Int) (f16 : Int → Int) (f17 : Int → Int) (f18 : Int → Int) (f19 : Int → Int) (k0 : Int) (k25 : Int) (k33 : Int) (k34 : Int) (hI : k0 = 0 ∧ (0 ≤ a1 ∧ a1 < s.2 6 2 ∧ a2 = 1) ∧ x3 = upv (s.2 6 0) (s.2 6 1) a1 ∧ (0 ≤ x5 ∧ x5 ≤ s.2 6 2) ∧ x4 = many (fun y => upv (s.2 6 0) (s.2 6 1) y = upv (s.2 6 0) (s.2 6 1) a1) x5.toNat) (c_1 : ¬ (s.2 6 2) ≤ x5) (o_2 : (tOK (s.2 6) ∧ 0 ≤ x5 ∧ x5 ≤ 100000)) (f_3 : Int → Int) (c_5 : (upv ((s.2 6) 0) ((s.2 6) 1) x5) = x3) : lex3 0 0 ((s.2 6 2 - (i32 (x5 + 1))).toNat) 0 0 ((s.2 6 2 - x5).toNat) := by
  have hN := tOK_N hp
  (try simp only [bI_0, bI_n, Classical.not_not] at *)
  (try have hb := many_b (fun y => upv (s.2 6 0) (s.2 6 1) y = upv (s.2 6 0) (s.2 6 1) a1) x5.toNat)
  (try unfold lex3)
  (try simp only [bI_0, bI_n, Classical.not_not] at *)
  (try simp (disch := omega) only [i32_id] at *)
  first | done | omega | ((repeat' (with_reducible apply And.intro)) <;> first | assumption | rfl | omega | (exact hI.1) | (unfold rKind; rw [if_neg (by omega)]) | (unfold rKind; rw [if_pos (by omega), if_pos (by omega)]) | (unfold rKind; rw [if_pos (by omega), if_neg (by omega), hI.2.2.2.2, show x5 = s.2 6 2 by omega]) | (have h9 := many_t (p := fun y => upv (s.2 6 0) (s.2 6 1) y = upv (s.2 6 0) (s.2 6 1) a1) (k := x5) (by omega) (by first | omega | (rw [← hI.2.2.1]; assumption)); omega) | (have h9 := many_f (p := fun y => upv (s.2 6 0) (s.2 6 1) y = upv (s.2 6 0) (s.2 6 1) a1) (k := x5) (by omega) (by first | omega | (rw [← hI.2.2.1]; assumption)); omega) | (have h9 : many (fun y => upv (s.2 6 0) (s.2 6 1) y = upv (s.2 6 0) (s.2 6 1) a1) (0 : Int).toNat = 0 := rfl; omega) | grind [upI])
theorem vX3_kind_8 (s : MS) (a1 : Int) (a2 : Int) (hp : tOK (s.2 6)) : (tOK (s.2 6)) := by
  have hN := tOK_N hp
  (try simp only [bI_0, bI_n, Classical.not_not] at *)
  (try have hb := many_b (fun y => upv (s.2 6 0) (s.2 6 1) y = upv (s.2 6 0) (s.2 6 1) a1) x5.toNat)
  (try unfold lex3)
  (try simp only [bI_0, bI_n, Classical.not_not] at *)
  (try simp (disch := omega) only [i32_id] at *)
  first | done | omega | ((repeat' (with_reducible apply And.intro)) <;> first | assumption | rfl | omega | (exact hI.1) | (unfold rKind; rw [if_neg (by omega)]) | (unfold rKind; rw [if_pos (by omega), if_pos (by omega)]) | (unfold rKind; rw [if_pos (by omega), if_neg (by omega), hI.2.2.2.2, show x5 = s.2 6 2 by omega]) | (have h9 := many_t (p := fun y => upv (s.2 6 0) (s.2 6 1) y = upv (s.2 6 0) (s.2 6 1) a1) (k := x5) (by omega) (by first | omega | (rw [← hI.2.2.1]; assumption)); omega) | (have h9 := many_f (p := fun y => upv (s.2 6 0) (s.2 6 1) y = upv (s.2 6 0) (s.2 6 1) a1) (k := x5) (by omega) (by first | omega | (rw [← hI.2.2.1]; assumption)); omega) | (have h9 : many (fun y => upv (s.2 6 0) (s.2 6 1) y = upv (s.2 6 0) (s.2 6 1) a1) (0 : Int).toNat = 0 := rfl; omega) | grind [upI])
theorem vX3_kind_9 (s : MS) (a1 : Int) (a2 : Int) (hp : tOK (s.2 6)) (o_1 : (tOK (s.2 6))) (c_3 : (bI (0 ≤ a1 ∧ a1 < (s.2 6) 2)) = 0) : (-2) = (rKind (s.2 6) a1 a2) := by
  have hN := tOK_N hp
  (try simp only [bI_0, bI_n, Classical.not_not] at *)
  (try have hb := many_b (fun y => upv (s.2 6 0) (s.2 6 1) y = upv (s.2 6 0) (s.2 6 1) a1) x5.toNat)
  (try unfold lex3)
  (try simp only [bI_0, bI_n, Classical.not_not] at *)
  (try simp (disch := omega) only [i32_id] at *)
  first | done | omega | ((repeat' (with_reducible apply And.intro)) <;> first | assumption | rfl | omega | (exact hI.1) | (unfold rKind; rw [if_neg (by omega)]) | (unfold rKind; rw [if_pos (by omega), if_pos (by omega)]) | (unfold rKind; rw [if_pos (by omega), if_neg (by omega), hI.2.2.2.2, show x5 = s.2 6 2 by omega]) | (have h9 := many_t (p := fun y => upv (s.2 6 0) (s.2 6 1) y = upv (s.2 6 0) (s.2 6 1) a1) (k := x5) (by omega) (by first | omega | (rw [← hI.2.2.1]; assumption)); omega) | (have h9 := many_f (p := fun y => upv (s.2 6 0) (s.2 6 1) y = upv (s.2 6 0) (s.2 6 1) a1) (k := x5) (by omega) (by first | omega | (rw [← hI.2.2.1]; assumption)); omega) | (have h9 : many (fun y => upv (s.2 6 0) (s.2 6 1) y = upv (s.2 6 0) (s.2 6 1) a1) (0 : Int).toNat = 0 := rfl; omega) | grind [upI])
theorem vX3_kind_10 (s : MS) (a1 : Int) (a2 : Int) (hp : tOK (s.2 6)) (o_1 : (tOK (s.2 6))) (c_3 : ¬ (bI (0 ≤ a1 ∧ a1 < (s.2 6) 2)) = 0) (c_5 : ¬ (bI ((0 : Int) ≤ a2 ∧ a2 ≤ (1 : Int))) = 0) : (tOK (s.2 6) ∧ 0 ≤ a1 ∧ a1 ≤ 100000) := by
  have hN := tOK_N hp
  (try simp only [bI_0, bI_n, Classical.not_not] at *)
  (try have hb := many_b (fun y => upv (s.2 6 0) (s.2 6 1) y = upv (s.2 6 0) (s.2 6 1) a1) x5.toNat)
  (try unfold lex3)
  (try simp only [bI_0, bI_n, Classical.not_not] at *)
  (try simp (disch := omega) only [i32_id] at *)
  first | done | omega | ((repeat' (with_reducible apply And.intro)) <;> first | assumption | rfl | omega | (exact hI.1) | (unfold rKind; rw [if_neg (by omega)]) | (unfold rKind; rw [if_pos (by omega), if_pos (by omega)]) | (unfold rKind; rw [if_pos (by omega), if_neg (by omega), hI.2.2.2.2, show x5 = s.2 6 2 by omega]) | (have h9 := many_t (p := fun y => upv (s.2 6 0) (s.2 6 1) y = upv (s.2 6 0) (s.2 6 1) a1) (k := x5) (by omega) (by first | omega | (rw [← hI.2.2.1]; assumption)); omega) | (have h9 := many_f (p := fun y => upv (s.2 6 0) (s.2 6 1) y = upv (s.2 6 0) (s.2 6 1) a1) (k := x5) (by omega) (by first | omega | (rw [← hI.2.2.1]; assumption)); omega) | (have h9 : many (fun y => upv (s.2 6 0) (s.2 6 1) y = upv (s.2 6 0) (s.2 6 1) a1) (0 : Int).toNat = 0 := rfl; omega) | grind [upI])
theorem vX3_kind_11 (s : MS) (a1 : Int) (a2 : Int) (hp : tOK (s.2 6)) (o_1 : (tOK (s.2 6))) (c_3 : ¬ (bI (0 ≤ a1 ∧ a1 < (s.2 6) 2)) = 0) (c_5 : ¬ (bI ((0 : Int) ≤ a2 ∧ a2 ≤ (1 : Int))) = 0) (o_6 : (tOK (s.2 6) ∧ 0 ≤ a1 ∧ a1 ≤ 100000)) (f_7 : Int → Int) (c_9 : ¬ a2 = 0) : (0 : Int) = 0 ∧ (0 ≤ a1 ∧ a1 < s.2 6 2 ∧ a2 = 1) ∧ (upv ((s.2 6) 0) ((s.2 6) 1) a1) = upv (s.2 6 0) (s.2 6 1) a1 ∧ (0 ≤ (0 : Int) ∧ (0 : Int) ≤ s.2 6 2) ∧ (0 : Int) = many (fun y => upv (s.2 6 0) (s.2 6 1) y = upv (s.2 6 0) (s.2 6 1) a1) (0 : Int).toNat := by
  have hN := tOK_N hp
  (try simp only [bI_0, bI_n, Classical.not_not] at *)
  (try have hb := many_b (fun y => upv (s.2 6 0) (s.2 6 1) y = upv (s.2 6 0) (s.2 6 1) a1) x5.toNat)
  (try unfold lex3)
  (try simp only [bI_0, bI_n, Classical.not_not] at *)
  (try simp (disch := omega) only [i32_id] at *)
  first | done | omega | ((repeat' (with_reducible apply And.intro)) <;> first | assumption | rfl | omega | (exact hI.1) | (unfold rKind; rw [if_neg (by omega)]) | (unfold rKind; rw [if_pos (by omega), if_pos (by omega)]) | (unfold rKind; rw [if_pos (by omega), if_neg (by omega), hI.2.2.2.2, show x5 = s.2 6 2 by omega]) | (have h9 := many_t (p := fun y => upv (s.2 6 0) (s.2 6 1) y = upv (s.2 6 0) (s.2 6 1) a1) (k := x5) (by omega) (by first | omega | (rw [← hI.2.2.1]; assumption)); omega) | (have h9 := many_f (p := fun y => upv (s.2 6 0) (s.2 6 1) y = upv (s.2 6 0) (s.2 6 1) a1) (k := x5) (by omega) (by first | omega | (rw [← hI.2.2.1]; assumption)); omega) | (have h9 : many (fun y => upv (s.2 6 0) (s.2 6 1) y = upv (s.2 6 0) (s.2 6 1) a1) (0 : Int).toNat = 0 := rfl; omega) | grind [upI])
theorem vX3_kind_12 (s : MS) (a1 : Int) (a2 : Int) (hp : tOK (s.2 6)) (o_1 : (tOK (s.2 6))) (c_3 : ¬ (bI (0 ≤ a1 ∧ a1 < (s.2 6) 2)) = 0) (c_5 : ¬ (bI ((0 : Int) ≤ a2 ∧ a2 ≤ (1 : Int))) = 0) (o_6 : (tOK (s.2 6) ∧ 0 ≤ a1 ∧ a1 ≤ 100000)) (f_7 : Int → Int) (c_9 : a2 = 0) : (upv ((s.2 6) 0) ((s.2 6) 1) a1) = (rKind (s.2 6) a1 a2) := by
  have hN := tOK_N hp
  (try simp only [bI_0, bI_n, Classical.not_not] at *)
  (try have hb := many_b (fun y => upv (s.2 6 0) (s.2 6 1) y = upv (s.2 6 0) (s.2 6 1) a1) x5.toNat)
  (try unfold lex3)
  (try simp only [bI_0, bI_n, Classical.not_not] at *)
  (try simp (disch := omega) only [i32_id] at *)
  first | done | omega | ((repeat' (with_reducible apply And.intro)) <;> first | assumption | rfl | omega | (exact hI.1) | (unfold rKind; rw [if_neg (by omega)]) | (unfold rKind; rw [if_pos (by omega), if_pos (by omega)]) | (unfold rKind; rw [if_pos (by omega), if_neg (by omega), hI.2.2.2.2, show x5 = s.2 6 2 by omega]) | (have h9 := many_t (p := fun y => upv (s.2 6 0) (s.2 6 1) y = upv (s.2 6 0) (s.2 6 1) a1) (k := x5) (by omega) (by first | omega | (rw [← hI.2.2.1]; assumption)); omega) | (have h9 := many_f (p := fun y => upv (s.2 6 0) (s.2 6 1) y = upv (s.2 6 0) (s.2 6 1) a1) (k := x5) (by omega) (by first | omega | (rw [← hI.2.2.1]; assumption)); omega) | (have h9 : many (fun y => upv (s.2 6 0) (s.2 6 1) y = upv (s.2 6 0) (s.2 6 1) a1) (0 : Int).toNat = 0 := rfl; omega) | grind [upI])
theorem vX3_kind_13 (s : MS) (a1 : Int) (a2 : Int) (hp : tOK (s.2 6)) (o_1 : (tOK (s.2 6))) (c_3 : ¬ (bI (0 ≤ a1 ∧ a1 < (s.2 6) 2)) = 0) (c_5 : (bI ((0 : Int) ≤ a2 ∧ a2 ≤ (1 : Int))) = 0) : (-2) = (rKind (s.2 6) a1 a2) := by
  have hN := tOK_N hp
  (try simp only [bI_0, bI_n, Classical.not_not] at *)
  (try have hb := many_b (fun y => upv (s.2 6 0) (s.2 6 1) y = upv (s.2 6 0) (s.2 6 1) a1) x5.toNat)
  (try unfold lex3)
  (try simp only [bI_0, bI_n, Classical.not_not] at *)
  (try simp (disch := omega) only [i32_id] at *)
  first | done | omega | ((repeat' (with_reducible apply And.intro)) <;> first | assumption | rfl | omega | (exact hI.1) | (unfold rKind; rw [if_neg (by omega)]) | (unfold rKind; rw [if_pos (by omega), if_pos (by omega)]) | (unfold rKind; rw [if_pos (by omega), if_neg (by omega), hI.2.2.2.2, show x5 = s.2 6 2 by omega]) | (have h9 := many_t (p := fun y => upv (s.2 6 0) (s.2 6 1) y = upv (s.2 6 0) (s.2 6 1) a1) (k := x5) (by omega) (by first | omega | (rw [← hI.2.2.1]; assumption)); omega) | (have h9 := many_f (p := fun y => upv (s.2 6 0) (s.2 6 1) y = upv (s.2 6 0) (s.2 6 1) a1) (k := x5) (by omega) (by first | omega | (rw [← hI.2.2.1]; assumption)); omega) | (have h9 : many (fun y => upv (s.2 6 0) (s.2 6 1) y = upv (s.2 6 0) (s.2 6 1) a1) (0 : Int).toNat = 0 := rfl; omega) | grind [upI])
theorem allX3_kind (b : AH) (s : MS) (a1 : Int) (a2 : Int) (hp : tOK (s.2 6)) : ∀ m1 m2 m3 : Nat, (∀ (x3 : Int) (x4 : Int) (x5 : Int) (f11 : Int → Int) (f12 : Int → Int) (f13 : Int → Int) (f14 : Int → Int) (f15 : Int → Int) (f16 : Int → Int) (f17 : Int → Int) (f18 : Int → Int) (f19 : Int → Int) (k0 : Int) (k25 : Int) (k33 : Int) (k34 : Int), m1 = 0 → m2 = 0 → m3 = ((s.2 6 2 - x5).toNat) → (k0 = 0 ∧ (0 ≤ a1 ∧ a1 < s.2 6 2 ∧ a2 = 1) ∧ x3 = upv (s.2 6 0) (s.2 6 1) a1 ∧ (0 ≤ x5 ∧ x5 ≤ s.2 6 2) ∧ x4 = many (fun y => upv (s.2 6 0) (s.2 6 1) y = upv (s.2 6 0) (s.2 6 1) a1) x5.toNat) → HX3_kind_45 (QX3_kind s a1 a2) b s x3 x4 x5 f11 f12 f13 f14 f15 f16 f17 f18 f19 k0 k25 k33 k34) := by
  refine lex3_ind ?_
  intro m1 m2 m3 ih
  rintro x3 x4 x5 f11 f12 f13 f14 f15 f16 f17 f18 f19 k0 k25 k33 k34 rfl rfl rfl hI
  refine bX3_kind_45 b s x3 x4 x5 f11 f12 f13 f14 f15 f16 f17 f18 f19 k0 k25 k33 k34 ?_
  refine ⟨fun c_1 => ?_, fun c_1 => ?_⟩
  · exact ⟨f11, f12, f13, f14, f15, f16, f17, f18, f19, k25, k33, k34, (rI_c (vX3_kind_2 s a1 a2 hp x3 x4 x5 f11 f12 f13 f14 f15 f16 f17 f18 f19 k0 k25 k33 k34 hI c_1)), (sS_c (sS_c (sS_c (sS_c (sA_c (sA_c (sA_c (sA_c (sA_c (sA_c (sA_c (sA_c (sA_c rfl rfl) rfl) rfl) rfl) rfl) rfl) rfl) rfl) rfl) (vX3_kind_1 s a1 a2 hp x3 x4 x5 f11 f12 f13 f14 f15 f16 f17 f18 f19 k0 k25 k33 k34 hI c_1)) rfl) rfl) rfl)⟩
  · have o_2 : (tOK (s.2 6) ∧ 0 ≤ x5 ∧ x5 ≤ 100000) := (vX3_kind_3 s a1 a2 hp x3 x4 x5 f11 f12 f13 f14 f15 f16 f17 f18 f19 k0 k25 k33 k34 hI c_1)
    refine ⟨o_2, ?_⟩
    intro f_3
    refine ⟨fun c_5 => ?_, fun c_5 => ?_⟩
    · exact (ih _ _ _ (vX3_kind_5 s a1 a2 hp x3 x4 x5 f11 f12 f13 f14 f15 f16 f17 f18 f19 k0 k25 k33 k34 hI c_1 o_2 f_3 c_5)) x3 (i32 (x4 + 0)) (i32 (x5 + 1)) (figs ((s.2 6) 0) ((s.2 6) 1) x5 f11) f_3 f13 f14 f15 f16 f17 f18 f19 k0 k25 k33 k34 rfl rfl rfl (vX3_kind_4 s a1 a2 hp x3 x4 x5 f11 f12 f13 f14 f15 f16 f17 f18 f19 k0 k25 k33 k34 hI c_1 o_2 f_3 c_5)
    · exact (ih _ _ _ (vX3_kind_7 s a1 a2 hp x3 x4 x5 f11 f12 f13 f14 f15 f16 f17 f18 f19 k0 k25 k33 k34 hI c_1 o_2 f_3 c_5)) x3 (i32 (x4 + 1)) (i32 (x5 + 1)) (figs ((s.2 6) 0) ((s.2 6) 1) x5 f11) f_3 f13 f14 f15 f16 f17 f18 f19 k0 k25 k33 k34 rfl rfl rfl (vX3_kind_6 s a1 a2 hp x3 x4 x5 f11 f12 f13 f14 f15 f16 f17 f18 f19 k0 k25 k33 k34 hI c_1 o_2 f_3 c_5)
theorem ctX3_kind (b : AH) (s : MS) (a1 : Int) (a2 : Int) (hp : tOK (s.2 6)) : MC mX3_kind 8 b s [vI a1, vI a2] (QX3_kind s a1 a2) := by
  refine MC.of (by decide) rfl (Nat.le_of_ble_eq_true rfl) (JW.steq (s2 := sS (sS (sS (sS (sA (sA (sA (sA (sA (sA (sA (sA (sA s 11 (s.2 11)) 12 (s.2 12)) 13 (s.2 13)) 14 (s.2 14)) 15 (s.2 15)) 16 (s.2 16)) 17 (s.2 17)) 18 (s.2 18)) 19 (s.2 19)) 0 (s.1 0)) 25 (s.1 25)) 33 (s.1 33)) 34 (s.1 34)) (by simp only [sA_id, sS_id]) ?_)
  refine bX3_kind_0 b s a1 a2 (s.2 11) (s.2 12) (s.2 13) (s.2 14) (s.2 15) (s.2 16) (s.2 17) (s.2 18) (s.2 19) (s.1 0) (s.1 25) (s.1 33) (s.1 34) ?_
  have o_1 : (tOK (s.2 6)) := (vX3_kind_8 s a1 a2 hp)
  refine ⟨o_1, ?_⟩
  refine ⟨fun c_3 => ?_, fun c_3 => ?_⟩
  · exact ⟨(s.2 11), (s.2 12), (s.2 13), (s.2 14), (s.2 15), (s.2 16), (s.2 17), (s.2 18), (s.2 19), (s.1 25), (s.1 33), (s.1 34), (rI_c (vX3_kind_9 s a1 a2 hp o_1 c_3)), rfl⟩
  · refine ⟨fun c_5 => ?_, fun c_5 => ?_⟩
    · have o_6 : (tOK (s.2 6) ∧ 0 ≤ a1 ∧ a1 ≤ 100000) := (vX3_kind_10 s a1 a2 hp o_1 c_3 c_5)
      refine ⟨o_6, ?_⟩
      intro f_7
      refine ⟨fun c_9 => ?_, fun c_9 => ?_⟩
      · exact (allX3_kind b s a1 a2 hp _ _ _) (upv ((s.2 6) 0) ((s.2 6) 1) a1) 0 0 (figs ((s.2 6) 0) ((s.2 6) 1) a1 (s.2 11)) f_7 (s.2 13) (s.2 14) (s.2 15) (s.2 16) (s.2 17) (s.2 18) (s.2 19) 0 (s.1 25) (s.1 33) (s.1 34) rfl rfl rfl (vX3_kind_11 s a1 a2 hp o_1 c_3 c_5 o_6 f_7 c_9)
      · exact ⟨(figs ((s.2 6) 0) ((s.2 6) 1) a1 (s.2 11)), f_7, (s.2 13), (s.2 14), (s.2 15), (s.2 16), (s.2 17), (s.2 18), (s.2 19), (s.1 25), (s.1 33), (s.1 34), (rI_c (vX3_kind_12 s a1 a2 hp o_1 c_3 c_5 o_6 f_7 c_9)), rfl⟩
    · exact ⟨(s.2 11), (s.2 12), (s.2 13), (s.2 14), (s.2 15), (s.2 16), (s.2 17), (s.2 18), (s.2 19), (s.1 25), (s.1 33), (s.1 34), (rI_c (vX3_kind_13 s a1 a2 hp o_1 c_3 c_5)), rfl⟩
def HX3_odd_0 (Q : Option AV → MS → Prop) (b : AH) (s : MS) (f11 : Int → Int) (f12 : Int → Int) (f13 : Int → Int) (f14 : Int → Int) (f15 : Int → Int) (f16 : Int → Int) (f17 : Int → Int) (f18 : Int → Int) (f19 : Int → Int) (k0 : Int) (k25 : Int) (k33 : Int) (k34 : Int) : Prop := MW mX3_odd 8 Q b 0 [(0, vR 351)] [] (sS (sS (sS (sS (sA (sA (sA (sA (sA (sA (sA (sA (sA s 11 f11) 12 f12) 13 f13) 14 f14) 15 f15) 16 f16) 17 f17) 18 f18) 19 f19) 0 k0) 25 k25) 33 k33) 34 k34)
def HX3_odd_21 (Q : Option AV → MS → Prop) (b : AH) (s : MS) (x1 : Int) (f11 : Int → Int) (f12 : Int → Int) (f13 : Int → Int) (f14 : Int → Int) (f15 : Int → Int) (f16 : Int → Int) (f17 : Int → Int) (f18 : Int → Int) (f19 : Int → Int) (k0 : Int) (k25 : Int) (k33 : Int) (k34 : Int) : Prop := MW mX3_odd 8 Q b 21 [(0, vR 351), (1, vI x1)] [] (sS (sS (sS (sS (sA (sA (sA (sA (sA (sA (sA (sA (sA s 11 f11) 12 f12) 13 f13) 14 f14) 15 f15) 16 f16) 17 f17) 18 f18) 19 f19) 0 k0) 25 k25) 33 k33) 34 k34)
theorem bX3_odd_0 {Q : Option AV → MS → Prop} (b : AH) (s : MS) (f11 : Int → Int) (f12 : Int → Int) (f13 : Int → Int) (f14 : Int → Int) (f15 : Int → Int) (f16 : Int → Int) (f17 : Int → Int) (f18 : Int → Int) (f19 : Int → Int) (k0 : Int) (k25 : Int) (k33 : Int) (k34 : Int) (K : (¬ (bI (0 < (s.2 5) 0)) = 0 → (tOK (s.2 6) ∧ aOK (s.2 6) (s.2 7)) ∧ ((∀ (f_4 : Int → Int) (f_5 : Int → Int) (f_6 : Int → Int) (k_7 : Int), (NXO (s.2 6) (s.2 7) f_6) → HX3_odd_21 Q b s 0 f_4 f_5 f_6 f14 f15 f16 f17 f18 f19 0 k_7 k33 k34))) ∧ ((bI (0 < (s.2 5) 0)) = 0 → Q (some (vI (-2))) (sS (sS (sS (sS (sA (sA (sA (sA (sA (sA (sA (sA (sA s 11 f11) 12 f12) 13 f13) 14 f14) 15 f15) 16 f16) 17 f17) 18 f18) 19 f19) 0 0) 25 k25) 33 k33) 34 k34))) : HX3_odd_0 Q b s f11 f12 f13 f14 f15 f16 f17 f18 f19 k0 k25 k33 k34 := by
  refine JW.aload_n dX3_odd_0 rfl ?_
  refine JW.iconst dX3_odd_1 rfl ?_
  refine JW.mputI dX3_odd_2 (pX3_77 _) rfl ?_
  refine JW.steq (s2 := sS (sS (sS (sS (sA (sA (sA (sA (sA (sA (sA (sA (sA s 11 f11) 12 f12) 13 f13) 14 f14) 15 f15) 16 f16) 17 f17) 18 f18) 19 f19) 0 0) 25 k25) 33 k33) 34 k34) (by simp only [sA_A, sS_S, sA_S, sA_lt, sS_lt, Nat.reduceLT, id_eq] <;> rfl) ?_
  refine JW.aload_n dX3_odd_5 rfl ?_
  refine JW.mcall (As := []) dX3_odd_6 vX3_isTable rfl q1798 (ctX3_isTable b (sS (sS (sS (sS (sA (sA (sA (sA (sA (sA (sA (sA (sA s 11 f11) 12 f12) 13 f13) 14 f14) 15 f15) 16 f16) 17 f17) 18 f18) 19 f19) 0 0) 25 k25) 33 k33) 34 k34)) (Nat.le_of_ble_eq_true rfl) rfl (Nat.le_of_ble_eq_true rfl) ?_
  rintro _ _ ⟨rfl, eq_1⟩
  refine JW.steq (s2 := sS (sS (sS (sS (sA (sA (sA (sA (sA (sA (sA (sA (sA s 11 f11) 12 f12) 13 f13) 14 f14) 15 f15) 16 f16) 17 f17) 18 f18) 19 f19) 0 0) 25 k25) 33 k33) 34 k34) eq_1 ?_
  refine JW.if_ne (tgt := 15) dX3_odd_9 rfl (fun c_2 => ?_) (fun c_2 => ?_)
  · have K := K.1 c_2
    refine JW.aload_n dX3_odd_15 rfl ?_
    obtain ⟨o_3, K⟩ := K
    refine JW.mcall (As := []) dX3_odd_16 vX3_lays rfl q1867 (ctX3_lays b (sS (sS (sS (sS (sA (sA (sA (sA (sA (sA (sA (sA (sA s 11 f11) 12 f12) 13 f13) 14 f14) 15 f15) 16 f16) 17 f17) 18 f18) 19 f19) 0 0) 25 k25) 33 k33) 34 k34) o_3) (Nat.le_of_ble_eq_true rfl) rfl (Nat.le_of_ble_eq_true rfl) ?_
    rintro _ _ ⟨f_4, f_5, f_6, k_7, rfl, rfl, q_8⟩
    refine JW.steq (s2 := sS (sS (sS (sS (sA (sA (sA (sA (sA (sA (sA (sA (sA s 11 f_4) 12 f_5) 13 f_6) 14 f14) 15 f15) 16 f16) 17 f17) 18 f18) 19 f19) 0 0) 25 k_7) 33 k33) 34 k34) (by simp only [sA_A, sS_S, sA_S, sA_lt, sS_lt, Nat.reduceLT, id_eq] <;> rfl) ?_
    replace K := K f_4 f_5 f_6 k_7 q_8
    refine JW.iconst dX3_odd_19 rfl ?_
    refine JW.istore_n (ls' := [(0, vR 351), (1, vI 0)]) dX3_odd_20 (Nat.le_of_ble_eq_true rfl) rfl ?_
    exact JW.pick [0, 1] rfl K
  · have K := K.2 c_2
    refine JW.bipush dX3_odd_12 rfl ?_
    exact JW.ireturn dX3_odd_14 rfl rfl ⟨_, rfl, K⟩
theorem bX3_odd_21 {Q : Option AV → MS → Prop} (b : AH) (s : MS) (x1 : Int) (f11 : Int → Int) (f12 : Int → Int) (f13 : Int → Int) (f14 : Int → Int) (f15 : Int → Int) (f16 : Int → Int) (f17 : Int → Int) (f18 : Int → Int) (f19 : Int → Int) (k0 : Int) (k25 : Int) (k33 : Int) (k34 : Int) (K : ((s.2 6 2) ≤ x1 → Q (some (vI (-1))) (sS (sS (sS (sS (sA (sA (sA (sA (sA (sA (sA (sA (sA s 11 f11) 12 f12) 13 f13) 14 f14) 15 f15) 16 f16) 17 f17) 18 f18) 19 f19) 0 k0) 25 k25) 33 k33) 34 k34)) ∧ (¬ (s.2 6 2) ≤ x1 → (0 ≤ x1 ∧ x1 < 10000) ∧ ((tOK (s.2 6) ∧ 0 ≤ x1 ∧ x1 ≤ 100000) ∧ ((∀ (f_4 : Int → Int), (0 ≤ (upv ((s.2 6) 0) ((s.2 6) 1) x1) ∧ (upv ((s.2 6) 0) ((s.2 6) 1) x1) < 10000) ∧ (((f13 x1) = (f13 (upv ((s.2 6) 0) ((s.2 6) 1) x1)) → HX3_odd_21 Q b s (i32 (x1 + 1)) (figs ((s.2 6) 0) ((s.2 6) 1) x1 f11) f_4 f13 f14 f15 f16 f17 f18 f19 k0 k25 k33 k34) ∧ (¬ (f13 x1) = (f13 (upv ((s.2 6) 0) ((s.2 6) 1) x1)) → Q (some (vI x1)) (sS (sS (sS (sS (sA (sA (sA (sA (sA (sA (sA (sA (sA s 11 (figs ((s.2 6) 0) ((s.2 6) 1) x1 f11)) 12 f_4) 13 f13) 14 f14) 15 f15) 16 f16) 17 f17) 18 f18) 19 f19) 0 k0) 25 k25) 33 k33) 34 k34)))))))) : HX3_odd_21 Q b s x1 f11 f12 f13 f14 f15 f16 f17 f18 f19 k0 k25 k33 k34 := by
  refine JW.iload_n dX3_odd_21 rfl ?_
  refine JW.aload_n dX3_odd_22 rfl ?_
  refine JW.mget (v := vR 358) dX3_odd_23 fX3_34 rfl ?_
  refine JW.iconst dX3_odd_26 rfl ?_
  refine JW.mald 6 (x := (s.2 6 2)) dX3_odd_27 (Nat.le_of_ble_eq_true rfl) rfl (by decide) (by decide) rfl ?_
  refine JW.icmp_ge (tgt := 58) dX3_odd_28 rfl (fun c_1 => ?_) (fun c_1 => ?_)
  · have K := K.1 c_1
    refine JW.iconst dX3_odd_58 rfl ?_
    exact JW.ireturn dX3_odd_59 rfl rfl ⟨_, rfl, K⟩
  · have K := K.2 c_1
    refine JW.aload_n dX3_odd_31 rfl ?_
    refine JW.mget (v := vR 365) dX3_odd_32 fX3_56 rfl ?_
    refine JW.iload_n dX3_odd_35 rfl ?_
    obtain ⟨o_2, K⟩ := K
    refine JW.mald 13 (x := (f13 x1)) dX3_odd_36 (Nat.le_of_ble_eq_true rfl) rfl o_2.1 o_2.2 rfl ?_
    refine JW.aload_n dX3_odd_37 rfl ?_
    refine JW.mget (v := vR 365) dX3_odd_38 fX3_56 rfl ?_
    refine JW.aload_n dX3_odd_41 rfl ?_
    refine JW.iload_n dX3_odd_42 rfl ?_
    obtain ⟨o_3, K⟩ := K
    refine JW.mcall (As := [vI x1]) dX3_odd_43 vX3_up rfl q1834 (ctX3_up b (sS (sS (sS (sS (sA (sA (sA (sA (sA (sA (sA (sA (sA s 11 f11) 12 f12) 13 f13) 14 f14) 15 f15) 16 f16) 17 f17) 18 f18) 19 f19) 0 k0) 25 k25) 33 k33) 34 k34) x1 o_3) (Nat.le_of_ble_eq_true rfl) rfl (Nat.le_of_ble_eq_true rfl) ?_
    rintro _ _ ⟨f_4, rfl, rfl⟩
    refine JW.steq (s2 := sS (sS (sS (sS (sA (sA (sA (sA (sA (sA (sA (sA (sA s 11 (figs ((s.2 6) 0) ((s.2 6) 1) x1 f11)) 12 f_4) 13 f13) 14 f14) 15 f15) 16 f16) 17 f17) 18 f18) 19 f19) 0 k0) 25 k25) 33 k33) 34 k34) (by simp only [sA_A, sS_S, sA_S, sA_lt, sS_lt, Nat.reduceLT, id_eq] <;> rfl) ?_
    replace K := K f_4
    obtain ⟨o_6, K⟩ := K
    refine JW.mald 13 (x := (f13 (upv ((s.2 6) 0) ((s.2 6) 1) x1))) dX3_odd_46 (Nat.le_of_ble_eq_true rfl) rfl o_6.1 o_6.2 rfl ?_
    refine JW.icmp_eq (tgt := 52) dX3_odd_47 rfl (fun c_7 => ?_) (fun c_7 => ?_)
    · have K := K.1 c_7
      refine JW.iinc (ls' := [(0, vR 351), (1, vI (i32 (x1 + 1)))]) dX3_odd_52 (Nat.le_of_ble_eq_true rfl) rfl rfl ?_
      refine JW.goto (tgt := 21) dX3_odd_55 rfl ?_
      exact JW.pick [0, 1] rfl K
    · have K := K.2 c_7
      refine JW.iload_n dX3_odd_50 rfl ?_
      exact JW.ireturn dX3_odd_51 rfl rfl ⟨_, rfl, K⟩
def QX3_odd (s : MS) : Option AV → MS → Prop := fun v s' => ∃ (f11 : Int → Int) (f12 : Int → Int) (f13 : Int → Int) (f14 : Int → Int) (f15 : Int → Int) (f16 : Int → Int) (f17 : Int → Int) (f18 : Int → Int) (f19 : Int → Int) (k25 : Int) (k33 : Int) (k34 : Int), v = some (vI (rOdd ((s.2 5) 0) (s.2 6) (s.2 7))) ∧ s' = sS (sS (sS (sS (sA (sA (sA (sA (sA (sA (sA (sA (sA s 11 f11) 12 f12) 13 f13) 14 f14) 15 f15) 16 f16) 17 f17) 18 f18) 19 f19) 0 (0)) 25 k25) 33 k33) 34 k34
theorem vX3_odd_1 (s : MS) (hp : tOK (s.2 6) ∧ aOK (s.2 6) (s.2 7) ∧ lOK ((s.2 5) 0) (s.2 6)) (x1 : Int) (f11 : Int → Int) (f12 : Int → Int) (f13 : Int → Int) (f14 : Int → Int) (f15 : Int → Int) (f16 : Int → Int) (f17 : Int → Int) (f18 : Int → Int) (f19 : Int → Int) (k0 : Int) (k25 : Int) (k33 : Int) (k34 : Int) (hI : k0 = 0 ∧ NXO (s.2 6) (s.2 7) f13 ∧ 0 < s.2 5 0 ∧ (0 ≤ x1 ∧ x1 ≤ s.2 6 2) ∧ ∀ z : Int, 0 ≤ z → z < x1 → nx (s.2 6) (s.2 7) z = nx (s.2 6) (s.2 7) (upv (s.2 6 0) (s.2 6 1) z)) (c_1 : (s.2 6 2) ≤ x1) : k0 = (0) := by
  obtain ⟨ht, ha, hl⟩ := hp
  have hN := tOK_N ht
  have hg := nx_rng (s.2 6) (s.2 7)
  (try simp only [bI_0, bI_n, Classical.not_not] at *)
  (try have hq := ‹NXO (s.2 6) (s.2 7) _›)
  (try have hq := hI.2.1)
  (try have hN2 : 0 < s.2 6 2 := lOK_N ht hl (by omega))
  (try (have hu := upv_N (x := x1) ht (by omega); have h1 := hq x1 (by omega) (by omega); have h2 := hq _ hu.1 hu.2))
  (try unfold lex3)
  (try simp only [bI_0, bI_n, Classical.not_not] at *)
  (try simp (disch := omega) only [i32_id] at *)
  first | done | omega | ((repeat' (with_reducible apply And.intro)) <;> first | assumption | rfl | omega | (exact hI.1) | (exact hI.2.1) | (exact hq) | (unfold rOdd; rw [if_neg (by omega)]) | (intro z h0 h1; omega) | (intro z h0 h9; by_cases e9 : z = x1; (focus (rw [e9, ← h1, ← h2]; assumption)); (focus (exact hI.2.2.2.2 z h0 (by omega)))) | (unfold rOdd; rw [if_pos (by omega)]; exact nth_eq (isNth_first (by omega) (by omega) (by show nx _ _ _ ≠ nx _ _ _; rw [← h1, ← h2]; assumption) (fun z a b c => c (hI.2.2.2.2 z a b)))) | (unfold rOdd; rw [if_pos (by omega)]; exact nth_eq (isNth_nofirst (fun z a b c => c (hI.2.2.2.2 z a (by omega))))) | grind [upI])
theorem vX3_odd_2 (s : MS) (hp : tOK (s.2 6) ∧ aOK (s.2 6) (s.2 7) ∧ lOK ((s.2 5) 0) (s.2 6)) (x1 : Int) (f11 : Int → Int) (f12 : Int → Int) (f13 : Int → Int) (f14 : Int → Int) (f15 : Int → Int) (f16 : Int → Int) (f17 : Int → Int) (f18 : Int → Int) (f19 : Int → Int) (k0 : Int) (k25 : Int) (k33 : Int) (k34 : Int) (hI : k0 = 0 ∧ NXO (s.2 6) (s.2 7) f13 ∧ 0 < s.2 5 0 ∧ (0 ≤ x1 ∧ x1 ≤ s.2 6 2) ∧ ∀ z : Int, 0 ≤ z → z < x1 → nx (s.2 6) (s.2 7) z = nx (s.2 6) (s.2 7) (upv (s.2 6 0) (s.2 6 1) z)) (c_1 : (s.2 6 2) ≤ x1) : (-1) = (rOdd ((s.2 5) 0) (s.2 6) (s.2 7)) := by
  obtain ⟨ht, ha, hl⟩ := hp
  have hN := tOK_N ht
  have hg := nx_rng (s.2 6) (s.2 7)
  (try simp only [bI_0, bI_n, Classical.not_not] at *)
  (try have hq := ‹NXO (s.2 6) (s.2 7) _›)
  (try have hq := hI.2.1)
  (try have hN2 : 0 < s.2 6 2 := lOK_N ht hl (by omega))
  (try (have hu := upv_N (x := x1) ht (by omega); have h1 := hq x1 (by omega) (by omega); have h2 := hq _ hu.1 hu.2))
  (try unfold lex3)
  (try simp only [bI_0, bI_n, Classical.not_not] at *)
  (try simp (disch := omega) only [i32_id] at *)
  first | done | omega | ((repeat' (with_reducible apply And.intro)) <;> first | assumption | rfl | omega | (exact hI.1) | (exact hI.2.1) | (exact hq) | (unfold rOdd; rw [if_neg (by omega)]) | (intro z h0 h1; omega) | (intro z h0 h9; by_cases e9 : z = x1; (focus (rw [e9, ← h1, ← h2]; assumption)); (focus (exact hI.2.2.2.2 z h0 (by omega)))) | (unfold rOdd; rw [if_pos (by omega)]; exact nth_eq (isNth_first (by omega) (by omega) (by show nx _ _ _ ≠ nx _ _ _; rw [← h1, ← h2]; assumption) (fun z a b c => c (hI.2.2.2.2 z a b)))) | (unfold rOdd; rw [if_pos (by omega)]; exact nth_eq (isNth_nofirst (fun z a b c => c (hI.2.2.2.2 z a (by omega))))) | grind [upI])
theorem vX3_odd_3 (s : MS) (hp : tOK (s.2 6) ∧ aOK (s.2 6) (s.2 7) ∧ lOK ((s.2 5) 0) (s.2 6)) (x1 : Int) (f11 : Int → Int) (f12 : Int → Int) (f13 : Int → Int) (f14 : Int → Int) (f15 : Int → Int) (f16 : Int → Int) (f17 : Int → Int) (f18 : Int → Int) (f19 : Int → Int) (k0 : Int) (k25 : Int) (k33 : Int) (k34 : Int) (hI : k0 = 0 ∧ NXO (s.2 6) (s.2 7) f13 ∧ 0 < s.2 5 0 ∧ (0 ≤ x1 ∧ x1 ≤ s.2 6 2) ∧ ∀ z : Int, 0 ≤ z → z < x1 → nx (s.2 6) (s.2 7) z = nx (s.2 6) (s.2 7) (upv (s.2 6 0) (s.2 6 1) z)) (c_1 : ¬ (s.2 6 2) ≤ x1) : (0 ≤ x1 ∧ x1 < 10000) := by
  obtain ⟨ht, ha, hl⟩ := hp
  have hN := tOK_N ht
  have hg := nx_rng (s.2 6) (s.2 7)
  (try simp only [bI_0, bI_n, Classical.not_not] at *)
  (try have hq := ‹NXO (s.2 6) (s.2 7) _›)
  (try have hq := hI.2.1)
  (try have hN2 : 0 < s.2 6 2 := lOK_N ht hl (by omega))
  (try (have hu := upv_N (x := x1) ht (by omega); have h1 := hq x1 (by omega) (by omega); have h2 := hq _ hu.1 hu.2))
  (try unfold lex3)
  (try simp only [bI_0, bI_n, Classical.not_not] at *)
  (try simp (disch := omega) only [i32_id] at *)
  first | done | omega | ((repeat' (with_reducible apply And.intro)) <;> first | assumption | rfl | omega | (exact hI.1) | (exact hI.2.1) | (exact hq) | (unfold rOdd; rw [if_neg (by omega)]) | (intro z h0 h1; omega) | (intro z h0 h9; by_cases e9 : z = x1; (focus (rw [e9, ← h1, ← h2]; assumption)); (focus (exact hI.2.2.2.2 z h0 (by omega)))) | (unfold rOdd; rw [if_pos (by omega)]; exact nth_eq (isNth_first (by omega) (by omega) (by show nx _ _ _ ≠ nx _ _ _; rw [← h1, ← h2]; assumption) (fun z a b c => c (hI.2.2.2.2 z a b)))) | (unfold rOdd; rw [if_pos (by omega)]; exact nth_eq (isNth_nofirst (fun z a b c => c (hI.2.2.2.2 z a (by omega))))) | grind [upI])
theorem vX3_odd_4 (s : MS) (hp : tOK (s.2 6) ∧ aOK (s.2 6) (s.2 7) ∧ lOK ((s.2 5) 0) (s.2 6)) (x1 : Int) (f11 : Int → Int) (f12 : Int → Int) (f13 : Int → Int) (f14 : Int → Int) (f15 : Int → Int) (f16 : Int → Int) (f17 : Int → Int) (f18 : Int → Int) (f19 : Int → Int) (k0 : Int) (k25 : Int) (k33 : Int) (k34 : Int) (hI : k0 = 0 ∧ NXO (s.2 6) (s.2 7) f13 ∧ 0 < s.2 5 0 ∧ (0 ≤ x1 ∧ x1 ≤ s.2 6 2) ∧ ∀ z : Int, 0 ≤ z → z < x1 → nx (s.2 6) (s.2 7) z = nx (s.2 6) (s.2 7) (upv (s.2 6 0) (s.2 6 1) z)) (c_1 : ¬ (s.2 6 2) ≤ x1) (o_2 : (0 ≤ x1 ∧ x1 < 10000)) : (tOK (s.2 6) ∧ 0 ≤ x1 ∧ x1 ≤ 100000) := by
  obtain ⟨ht, ha, hl⟩ := hp
  have hN := tOK_N ht
  have hg := nx_rng (s.2 6) (s.2 7)
  (try simp only [bI_0, bI_n, Classical.not_not] at *)
  (try have hq := ‹NXO (s.2 6) (s.2 7) _›)
  (try have hq := hI.2.1)
  (try have hN2 : 0 < s.2 6 2 := lOK_N ht hl (by omega))
  (try (have hu := upv_N (x := x1) ht (by omega); have h1 := hq x1 (by omega) (by omega); have h2 := hq _ hu.1 hu.2))
  (try unfold lex3)
  (try simp only [bI_0, bI_n, Classical.not_not] at *)
  (try simp (disch := omega) only [i32_id] at *)
  first | done | omega | ((repeat' (with_reducible apply And.intro)) <;> first | assumption | rfl | omega | (exact hI.1) | (exact hI.2.1) | (exact hq) | (unfold rOdd; rw [if_neg (by omega)]) | (intro z h0 h1; omega) | (intro z h0 h9; by_cases e9 : z = x1; (focus (rw [e9, ← h1, ← h2]; assumption)); (focus (exact hI.2.2.2.2 z h0 (by omega)))) | (unfold rOdd; rw [if_pos (by omega)]; exact nth_eq (isNth_first (by omega) (by omega) (by show nx _ _ _ ≠ nx _ _ _; rw [← h1, ← h2]; assumption) (fun z a b c => c (hI.2.2.2.2 z a b)))) | (unfold rOdd; rw [if_pos (by omega)]; exact nth_eq (isNth_nofirst (fun z a b c => c (hI.2.2.2.2 z a (by omega))))) | grind [upI])
theorem vX3_odd_5 (s : MS) (hp : tOK (s.2 6) ∧ aOK (s.2 6) (s.2 7) ∧ lOK ((s.2 5) 0) (s.2 6)) (x1 : Int) (f11 : Int → Int) (f12 : Int → Int) (f13 : Int → Int) (f14 : Int → Int) (f15 : Int → Int) (f16 : Int → Int) (f17 : Int → Int) (f18 : Int → Int) (f19 : Int → Int) (k0 : Int) (k25 : Int) (k33 : Int) (k34 : Int) (hI : k0 = 0 ∧ NXO (s.2 6) (s.2 7) f13 ∧ 0 < s.2 5 0 ∧ (0 ≤ x1 ∧ x1 ≤ s.2 6 2) ∧ ∀ z : Int, 0 ≤ z → z < x1 → nx (s.2 6) (s.2 7) z = nx (s.2 6) (s.2 7) (upv (s.2 6 0) (s.2 6 1) z)) (c_1 : ¬ (s.2 6 2) ≤ x1) (o_2 : (0 ≤ x1 ∧ x1 < 10000)) (o_3 : (tOK (s.2 6) ∧ 0 ≤ x1 ∧ x1 ≤ 100000)) (f_4 : Int → Int) : (0 ≤ (upv ((s.2 6) 0) ((s.2 6) 1) x1) ∧ (upv ((s.2 6) 0) ((s.2 6) 1) x1) < 10000) := by
  obtain ⟨ht, ha, hl⟩ := hp
  have hN := tOK_N ht
  have hg := nx_rng (s.2 6) (s.2 7)
  (try simp only [bI_0, bI_n, Classical.not_not] at *)
  (try have hq := ‹NXO (s.2 6) (s.2 7) _›)
  (try have hq := hI.2.1)
  (try have hN2 : 0 < s.2 6 2 := lOK_N ht hl (by omega))
  (try (have hu := upv_N (x := x1) ht (by omega); have h1 := hq x1 (by omega) (by omega); have h2 := hq _ hu.1 hu.2))
  (try unfold lex3)
  (try simp only [bI_0, bI_n, Classical.not_not] at *)
  (try simp (disch := omega) only [i32_id] at *)
  first | done | omega | ((repeat' (with_reducible apply And.intro)) <;> first | assumption | rfl | omega | (exact hI.1) | (exact hI.2.1) | (exact hq) | (unfold rOdd; rw [if_neg (by omega)]) | (intro z h0 h1; omega) | (intro z h0 h9; by_cases e9 : z = x1; (focus (rw [e9, ← h1, ← h2]; assumption)); (focus (exact hI.2.2.2.2 z h0 (by omega)))) | (unfold rOdd; rw [if_pos (by omega)]; exact nth_eq (isNth_first (by omega) (by omega) (by show nx _ _ _ ≠ nx _ _ _; rw [← h1, ← h2]; assumption) (fun z a b c => c (hI.2.2.2.2 z a b)))) | (unfold rOdd; rw [if_pos (by omega)]; exact nth_eq (isNth_nofirst (fun z a b c => c (hI.2.2.2.2 z a (by omega))))) | grind [upI])
theorem vX3_odd_6 (s : MS) (hp : tOK (s.2 6) ∧ aOK (s.2 6) (s.2 7) ∧ lOK ((s.2 5) 0) (s.2 6)) (x1 : Int) (f11 : Int → Int) (f12 : Int → Int) (f13 : Int → Int) (f14 : Int → Int) (f15 : Int → Int) (f16 : Int → Int) (f17 : Int → Int) (f18 : Int → Int) (f19 : Int → Int) (k0 : Int) (k25 : Int) (k33 : Int) (k34 : Int) (hI : k0 = 0 ∧ NXO (s.2 6) (s.2 7) f13 ∧ 0 < s.2 5 0 ∧ (0 ≤ x1 ∧ x1 ≤ s.2 6 2) ∧ ∀ z : Int, 0 ≤ z → z < x1 → nx (s.2 6) (s.2 7) z = nx (s.2 6) (s.2 7) (upv (s.2 6 0) (s.2 6 1) z)) (c_1 : ¬ (s.2 6 2) ≤ x1) (o_2 : (0 ≤ x1 ∧ x1 < 10000)) (o_3 : (tOK (s.2 6) ∧ 0 ≤ x1 ∧ x1 ≤ 100000)) (f_4 : Int → Int) (o_6 : (0 ≤ (upv ((s.2 6) 0) ((s.2 6) 1) x1) ∧ (upv ((s.2 6) 0) ((s.2 6) 1) x1) < 10000)) (c_7 : (f13 x1) = (f13 (upv ((s.2 6) 0) ((s.2 6) 1) x1))) : k0 = 0 ∧ NXO (s.2 6) (s.2 7) f13 ∧ 0 < s.2 5 0 ∧ (0 ≤ (i32 (x1 + 1)) ∧ (i32 (x1 + 1)) ≤ s.2 6 2) ∧ ∀ z : Int, 0 ≤ z → z < (i32 (x1 + 1)) → nx (s.2 6) (s.2 7) z = nx (s.2 6) (s.2 7) (upv (s.2 6 0) (s.2 6 1) z) := by
  obtain ⟨ht, ha, hl⟩ := hp
  have hN := tOK_N ht
  have hg := nx_rng (s.2 6) (s.2 7)
  (try simp only [bI_0, bI_n, Classical.not_not] at *)
  (try have hq := ‹NXO (s.2 6) (s.2 7) _›)
  (try have hq := hI.2.1)
  (try have hN2 : 0 < s.2 6 2 := lOK_N ht hl (by omega))
  (try (have hu := upv_N (x := x1) ht (by omega); have h1 := hq x1 (by omega) (by omega); have h2 := hq _ hu.1 hu.2))
  (try unfold lex3)
  (try simp only [bI_0, bI_n, Classical.not_not] at *)
  (try simp (disch := omega) only [i32_id] at *)
  first | done | omega | ((repeat' (with_reducible apply And.intro)) <;> first | assumption | rfl | omega | (exact hI.1) | (exact hI.2.1) | (exact hq) | (unfold rOdd; rw [if_neg (by omega)]) | (intro z h0 h1; omega) | (intro z h0 h9; by_cases e9 : z = x1; (focus (rw [e9, ← h1, ← h2]; assumption)); (focus (exact hI.2.2.2.2 z h0 (by omega)))) | (unfold rOdd; rw [if_pos (by omega)]; exact nth_eq (isNth_first (by omega) (by omega) (by show nx _ _ _ ≠ nx _ _ _; rw [← h1, ← h2]; assumption) (fun z a b c => c (hI.2.2.2.2 z a b)))) | (unfold rOdd; rw [if_pos (by omega)]; exact nth_eq (isNth_nofirst (fun z a b c => c (hI.2.2.2.2 z a (by omega))))) | grind [upI])
theorem vX3_odd_7 (s : MS) (hp : tOK (s.2 6) ∧ aOK (s.2 6) (s.2 7) ∧ lOK ((s.2 5) 0) (s.2 6)) (x1 : Int) (f11 : Int → Int) (f12 : Int → Int) (f13 : Int → Int) (f14 : Int → Int) (f15 : Int → Int) (f16 : Int → Int) (f17 : Int → Int) (f18 : Int → Int) (f19 : Int → Int) (k0 : Int) (k25 : Int) (k33 : Int) (k34 : Int) (hI : k0 = 0 ∧ NXO (s.2 6) (s.2 7) f13 ∧ 0 < s.2 5 0 ∧ (0 ≤ x1 ∧ x1 ≤ s.2 6 2) ∧ ∀ z : Int, 0 ≤ z → z < x1 → nx (s.2 6) (s.2 7) z = nx (s.2 6) (s.2 7) (upv (s.2 6 0) (s.2 6 1) z)) (c_1 : ¬ (s.2 6 2) ≤ x1) (o_2 : (0 ≤ x1 ∧ x1 < 10000)) (o_3 : (tOK (s.2 6) ∧ 0 ≤ x1 ∧ x1 ≤ 100000)) (f_4 : Int → Int) (o_6 : (0 ≤ (upv ((s.2 6) 0) ((s.2 6) 1) x1) ∧ (upv ((s.2 6) 0) ((s.2 6) 1) x1) < 10000)) (c_7 : (f13 x1) = (f13 (upv ((s.2 6) 0) ((s.2 6) 1) x1))) : lex3 0 0 ((s.2 6 2 - (i32 (x1 + 1))).toNat) 0 0 ((s.2 6 2 - x1).toNat) := by
  obtain ⟨ht, ha, hl⟩ := hp
  have hN := tOK_N ht
  have hg := nx_rng (s.2 6) (s.2 7)
  (try simp only [bI_0, bI_n, Classical.not_not] at *)
  (try have hq := ‹NXO (s.2 6) (s.2 7) _›)
  (try have hq := hI.2.1)
  (try have hN2 : 0 < s.2 6 2 := lOK_N ht hl (by omega))
  (try (have hu := upv_N (x := x1) ht (by omega); have h1 := hq x1 (by omega) (by omega); have h2 := hq _ hu.1 hu.2))
  (try unfold lex3)
  (try simp only [bI_0, bI_n, Classical.not_not] at *)
  (try simp (disch := omega) only [i32_id] at *)
  first | done | omega | ((repeat' (with_reducible apply And.intro)) <;> first | assumption | rfl | omega | (exact hI.1) | (exact hI.2.1) | (exact hq) | (unfold rOdd; rw [if_neg (by omega)]) | (intro z h0 h1; omega) | (intro z h0 h9; by_cases e9 : z = x1; (focus (rw [e9, ← h1, ← h2]; assumption)); (focus (exact hI.2.2.2.2 z h0 (by omega)))) | (unfold rOdd; rw [if_pos (by omega)]; exact nth_eq (isNth_first (by omega) (by omega) (by show nx _ _ _ ≠ nx _ _ _; rw [← h1, ← h2]; assumption) (fun z a b c => c (hI.2.2.2.2 z a b)))) | (unfold rOdd; rw [if_pos (by omega)]; exact nth_eq (isNth_nofirst (fun z a b c => c (hI.2.2.2.2 z a (by omega))))) | grind [upI])
theorem vX3_odd_8 (s : MS) (hp : tOK (s.2 6) ∧ aOK (s.2 6) (s.2 7) ∧ lOK ((s.2 5) 0) (s.2 6)) (x1 : Int) (f11 : Int → Int) (f12 : Int → Int) (f13 : Int → Int) (f14 : Int → Int) (f15 : Int → Int) (f16 : Int → Int) (f17 : Int → Int) (f18 : Int → Int) (f19 : Int → Int) (k0 : Int) (k25 : Int) (k33 : Int) (k34 : Int) (hI : k0 = 0 ∧ NXO (s.2 6) (s.2 7) f13 ∧ 0 < s.2 5 0 ∧ (0 ≤ x1 ∧ x1 ≤ s.2 6 2) ∧ ∀ z : Int, 0 ≤ z → z < x1 → nx (s.2 6) (s.2 7) z = nx (s.2 6) (s.2 7) (upv (s.2 6 0) (s.2 6 1) z)) (c_1 : ¬ (s.2 6 2) ≤ x1) (o_2 : (0 ≤ x1 ∧ x1 < 10000)) (o_3 : (tOK (s.2 6) ∧ 0 ≤ x1 ∧ x1 ≤ 100000)) (f_4 : Int → Int) (o_6 : (0 ≤ (upv ((s.2 6) 0) ((s.2 6) 1) x1) ∧ (upv ((s.2 6) 0) ((s.2 6) 1) x1) < 10000)) (c_7 : ¬ (f13 x1) = (f13 (upv ((s.2 6) 0) ((s.2 6) 1) x1))) : k0 = (0) := by
  obtain ⟨ht, ha, hl⟩ := hp
  have hN := tOK_N ht
  have hg := nx_rng (s.2 6) (s.2 7)
  (try simp only [bI_0, bI_n, Classical.not_not] at *)
  (try have hq := ‹NXO (s.2 6) (s.2 7) _›)
  (try have hq := hI.2.1)
  (try have hN2 : 0 < s.2 6 2 := lOK_N ht hl (by omega))
  (try (have hu := upv_N (x := x1) ht (by omega); have h1 := hq x1 (by omega) (by omega); have h2 := hq _ hu.1 hu.2))
  (try unfold lex3)
  (try simp only [bI_0, bI_n, Classical.not_not] at *)
  (try simp (disch := omega) only [i32_id] at *)
  first | done | omega | ((repeat' (with_reducible apply And.intro)) <;> first | assumption | rfl | omega | (exact hI.1) | (exact hI.2.1) | (exact hq) | (unfold rOdd; rw [if_neg (by omega)]) | (intro z h0 h1; omega) | (intro z h0 h9; by_cases e9 : z = x1; (focus (rw [e9, ← h1, ← h2]; assumption)); (focus (exact hI.2.2.2.2 z h0 (by omega)))) | (unfold rOdd; rw [if_pos (by omega)]; exact nth_eq (isNth_first (by omega) (by omega) (by show nx _ _ _ ≠ nx _ _ _; rw [← h1, ← h2]; assumption) (fun z a b c => c (hI.2.2.2.2 z a b)))) | (unfold rOdd; rw [if_pos (by omega)]; exact nth_eq (isNth_nofirst (fun z a b c => c (hI.2.2.2.2 z a (by omega))))) | grind [upI])
theorem vX3_odd_9 (s : MS) (hp : tOK (s.2 6) ∧ aOK (s.2 6) (s.2 7) ∧ lOK ((s.2 5) 0) (s.2 6)) (x1 : Int) (f11 : Int → Int) (f12 : Int → Int) (f13 : Int → Int) (f14 : Int → Int) (f15 : Int → Int) (f16 : Int → Int) (f17 : Int → Int) (f18 : Int → Int) (f19 : Int → Int) (k0 : Int) (k25 : Int) (k33 : Int) (k34 : Int) (hI : k0 = 0 ∧ NXO (s.2 6) (s.2 7) f13 ∧ 0 < s.2 5 0 ∧ (0 ≤ x1 ∧ x1 ≤ s.2 6 2) ∧ ∀ z : Int, 0 ≤ z → z < x1 → nx (s.2 6) (s.2 7) z = nx (s.2 6) (s.2 7) (upv (s.2 6 0) (s.2 6 1) z)) (c_1 : ¬ (s.2 6 2) ≤ x1) (o_2 : (0 ≤ x1 ∧ x1 < 10000)) (o_3 : (tOK (s.2 6) ∧ 0 ≤ x1 ∧ x1 ≤ 100000)) (f_4 : Int → Int) (o_6 : (0 ≤ (upv ((s.2 6) 0) ((s.2 6) 1) x1) ∧ (upv ((s.2 6) 0) ((s.2 6) 1) x1) < 10000)) (c_7 : ¬ (f13 x1) = (f13 (upv ((s.2 6) 0) ((s.2 6) 1) x1))) : x1 = (rOdd ((s.2 5) 0) (s.2 6) (s.2 7)) := by
  obtain ⟨ht, ha, hl⟩ := hp
  have hN := tOK_N ht
  have hg := nx_rng (s.2 6) (s.2 7)
  (try simp only [bI_0, bI_n, Classical.not_not] at *)
  (try have hq := ‹NXO (s.2 6) (s.2 7) _›)
  (try have hq := hI.2.1)
  (try have hN2 : 0 < s.2 6 2 := lOK_N ht hl (by omega))
  (try (have hu := upv_N (x := x1) ht (by omega); have h1 := hq x1 (by omega) (by omega); have h2 := hq _ hu.1 hu.2))
  (try unfold lex3)
  (try simp only [bI_0, bI_n, Classical.not_not] at *)
  (try simp (disch := omega) only [i32_id] at *)
  first | done | omega | ((repeat' (with_reducible apply And.intro)) <;> first | assumption | rfl | omega | (exact hI.1) | (exact hI.2.1) | (exact hq) | (unfold rOdd; rw [if_neg (by omega)]) | (intro z h0 h1; omega) | (intro z h0 h9; by_cases e9 : z = x1; (focus (rw [e9, ← h1, ← h2]; assumption)); (focus (exact hI.2.2.2.2 z h0 (by omega)))) | (unfold rOdd; rw [if_pos (by omega)]; exact nth_eq (isNth_first (by omega) (by omega) (by show nx _ _ _ ≠ nx _ _ _; rw [← h1, ← h2]; assumption) (fun z a b c => c (hI.2.2.2.2 z a b)))) | (unfold rOdd; rw [if_pos (by omega)]; exact nth_eq (isNth_nofirst (fun z a b c => c (hI.2.2.2.2 z a (by omega))))) | grind [upI])
theorem vX3_odd_10 (s : MS) (hp : tOK (s.2 6) ∧ aOK (s.2 6) (s.2 7) ∧ lOK ((s.2 5) 0) (s.2 6)) (c_2 : ¬ (bI (0 < (s.2 5) 0)) = 0) : (tOK (s.2 6) ∧ aOK (s.2 6) (s.2 7)) := by
  obtain ⟨ht, ha, hl⟩ := hp
  have hN := tOK_N ht
  have hg := nx_rng (s.2 6) (s.2 7)
  (try simp only [bI_0, bI_n, Classical.not_not] at *)
  (try have hq := ‹NXO (s.2 6) (s.2 7) _›)
  (try have hq := hI.2.1)
  (try have hN2 : 0 < s.2 6 2 := lOK_N ht hl (by omega))
  (try (have hu := upv_N (x := x1) ht (by omega); have h1 := hq x1 (by omega) (by omega); have h2 := hq _ hu.1 hu.2))
  (try unfold lex3)
  (try simp only [bI_0, bI_n, Classical.not_not] at *)
  (try simp (disch := omega) only [i32_id] at *)
  first | done | omega | ((repeat' (with_reducible apply And.intro)) <;> first | assumption | rfl | omega | (exact hI.1) | (exact hI.2.1) | (exact hq) | (unfold rOdd; rw [if_neg (by omega)]) | (intro z h0 h1; omega) | (intro z h0 h9; by_cases e9 : z = x1; (focus (rw [e9, ← h1, ← h2]; assumption)); (focus (exact hI.2.2.2.2 z h0 (by omega)))) | (unfold rOdd; rw [if_pos (by omega)]; exact nth_eq (isNth_first (by omega) (by omega) (by show nx _ _ _ ≠ nx _ _ _; rw [← h1, ← h2]; assumption) (fun z a b c => c (hI.2.2.2.2 z a b)))) | (unfold rOdd; rw [if_pos (by omega)]; exact nth_eq (isNth_nofirst (fun z a b c => c (hI.2.2.2.2 z a (by omega))))) | grind [upI])
theorem vX3_odd_11 (s : MS) (hp : tOK (s.2 6) ∧ aOK (s.2 6) (s.2 7) ∧ lOK ((s.2 5) 0) (s.2 6)) (c_2 : ¬ (bI (0 < (s.2 5) 0)) = 0) (o_3 : (tOK (s.2 6) ∧ aOK (s.2 6) (s.2 7))) (f_4 : Int → Int) (f_5 : Int → Int) (f_6 : Int → Int) (k_7 : Int) (q_8 : (NXO (s.2 6) (s.2 7) f_6)) : (0 : Int) = 0 ∧ NXO (s.2 6) (s.2 7) f_6 ∧ 0 < s.2 5 0 ∧ (0 ≤ (0 : Int) ∧ (0 : Int) ≤ s.2 6 2) ∧ ∀ z : Int, 0 ≤ z → z < (0 : Int) → nx (s.2 6) (s.2 7) z = nx (s.2 6) (s.2 7) (upv (s.2 6 0) (s.2 6 1) z) := by
  obtain ⟨ht, ha, hl⟩ := hp
  have hN := tOK_N ht
  have hg := nx_rng (s.2 6) (s.2 7)
  (try simp only [bI_0, bI_n, Classical.not_not] at *)
  (try have hq := ‹NXO (s.2 6) (s.2 7) _›)
  (try have hq := hI.2.1)
  (try have hN2 : 0 < s.2 6 2 := lOK_N ht hl (by omega))
  (try (have hu := upv_N (x := x1) ht (by omega); have h1 := hq x1 (by omega) (by omega); have h2 := hq _ hu.1 hu.2))
  (try unfold lex3)
  (try simp only [bI_0, bI_n, Classical.not_not] at *)
  (try simp (disch := omega) only [i32_id] at *)
  first | done | omega | ((repeat' (with_reducible apply And.intro)) <;> first | assumption | rfl | omega | (exact hI.1) | (exact hI.2.1) | (exact hq) | (unfold rOdd; rw [if_neg (by omega)]) | (intro z h0 h1; omega) | (intro z h0 h9; by_cases e9 : z = x1; (focus (rw [e9, ← h1, ← h2]; assumption)); (focus (exact hI.2.2.2.2 z h0 (by omega)))) | (unfold rOdd; rw [if_pos (by omega)]; exact nth_eq (isNth_first (by omega) (by omega) (by show nx _ _ _ ≠ nx _ _ _; rw [← h1, ← h2]; assumption) (fun z a b c => c (hI.2.2.2.2 z a b)))) | (unfold rOdd; rw [if_pos (by omega)]; exact nth_eq (isNth_nofirst (fun z a b c => c (hI.2.2.2.2 z a (by omega))))) | grind [upI])
theorem vX3_odd_12 (s : MS) (hp : tOK (s.2 6) ∧ aOK (s.2 6) (s.2 7) ∧ lOK ((s.2 5) 0) (s.2 6)) (c_2 : (bI (0 < (s.2 5) 0)) = 0) : (-2) = (rOdd ((s.2 5) 0) (s.2 6) (s.2 7)) := by
  obtain ⟨ht, ha, hl⟩ := hp
  have hN := tOK_N ht
  have hg := nx_rng (s.2 6) (s.2 7)
  (try simp only [bI_0, bI_n, Classical.not_not] at *)
  (try have hq := ‹NXO (s.2 6) (s.2 7) _›)
  (try have hq := hI.2.1)
  (try have hN2 : 0 < s.2 6 2 := lOK_N ht hl (by omega))
  (try (have hu := upv_N (x := x1) ht (by omega); have h1 := hq x1 (by omega) (by omega); have h2 := hq _ hu.1 hu.2))
  (try unfold lex3)
  (try simp only [bI_0, bI_n, Classical.not_not] at *)
  (try simp (disch := omega) only [i32_id] at *)
  first | done | omega | ((repeat' (with_reducible apply And.intro)) <;> first | assumption | rfl | omega | (exact hI.1) | (exact hI.2.1) | (exact hq) | (unfold rOdd; rw [if_neg (by omega)]) | (intro z h0 h1; omega) | (intro z h0 h9; by_cases e9 : z = x1; (focus (rw [e9, ← h1, ← h2]; assumption)); (focus (exact hI.2.2.2.2 z h0 (by omega)))) | (unfold rOdd; rw [if_pos (by omega)]; exact nth_eq (isNth_first (by omega) (by omega) (by show nx _ _ _ ≠ nx _ _ _; rw [← h1, ← h2]; assumption) (fun z a b c => c (hI.2.2.2.2 z a b)))) | (unfold rOdd; rw [if_pos (by omega)]; exact nth_eq (isNth_nofirst (fun z a b c => c (hI.2.2.2.2 z a (by omega))))) | grind [upI])
theorem allX3_odd (b : AH) (s : MS) (hp : tOK (s.2 6) ∧ aOK (s.2 6) (s.2 7) ∧ lOK ((s.2 5) 0) (s.2 6)) : ∀ m1 m2 m3 : Nat, (∀ (x1 : Int) (f11 : Int → Int) (f12 : Int → Int) (f13 : Int → Int) (f14 : Int → Int) (f15 : Int → Int) (f16 : Int → Int) (f17 : Int → Int) (f18 : Int → Int) (f19 : Int → Int) (k0 : Int) (k25 : Int) (k33 : Int) (k34 : Int), m1 = 0 → m2 = 0 → m3 = ((s.2 6 2 - x1).toNat) → (k0 = 0 ∧ NXO (s.2 6) (s.2 7) f13 ∧ 0 < s.2 5 0 ∧ (0 ≤ x1 ∧ x1 ≤ s.2 6 2) ∧ ∀ z : Int, 0 ≤ z → z < x1 → nx (s.2 6) (s.2 7) z = nx (s.2 6) (s.2 7) (upv (s.2 6 0) (s.2 6 1) z)) → HX3_odd_21 (QX3_odd s) b s x1 f11 f12 f13 f14 f15 f16 f17 f18 f19 k0 k25 k33 k34) := by
  refine lex3_ind ?_
  intro m1 m2 m3 ih
  rintro x1 f11 f12 f13 f14 f15 f16 f17 f18 f19 k0 k25 k33 k34 rfl rfl rfl hI
  refine bX3_odd_21 b s x1 f11 f12 f13 f14 f15 f16 f17 f18 f19 k0 k25 k33 k34 ?_
  refine ⟨fun c_1 => ?_, fun c_1 => ?_⟩
  · exact ⟨f11, f12, f13, f14, f15, f16, f17, f18, f19, k25, k33, k34, (rI_c (vX3_odd_2 s hp x1 f11 f12 f13 f14 f15 f16 f17 f18 f19 k0 k25 k33 k34 hI c_1)), (sS_c (sS_c (sS_c (sS_c (sA_c (sA_c (sA_c (sA_c (sA_c (sA_c (sA_c (sA_c (sA_c rfl rfl) rfl) rfl) rfl) rfl) rfl) rfl) rfl) rfl) (vX3_odd_1 s hp x1 f11 f12 f13 f14 f15 f16 f17 f18 f19 k0 k25 k33 k34 hI c_1)) rfl) rfl) rfl)⟩
  · have o_2 : (0 ≤ x1 ∧ x1 < 10000) := (vX3_odd_3 s hp x1 f11 f12 f13 f14 f15 f16 f17 f18 f19 k0 k25 k33 k34 hI c_1)
    refine ⟨o_2, ?_⟩
    have o_3 : (tOK (s.2 6) ∧ 0 ≤ x1 ∧ x1 ≤ 100000) := (vX3_odd_4 s hp x1 f11 f12 f13 f14 f15 f16 f17 f18 f19 k0 k25 k33 k34 hI c_1 o_2)
    refine ⟨o_3, ?_⟩
    intro f_4
    have o_6 : (0 ≤ (upv ((s.2 6) 0) ((s.2 6) 1) x1) ∧ (upv ((s.2 6) 0) ((s.2 6) 1) x1) < 10000) := (vX3_odd_5 s hp x1 f11 f12 f13 f14 f15 f16 f17 f18 f19 k0 k25 k33 k34 hI c_1 o_2 o_3 f_4)
    refine ⟨o_6, ?_⟩
    refine ⟨fun c_7 => ?_, fun c_7 => ?_⟩
    · exact (ih _ _ _ (vX3_odd_7 s hp x1 f11 f12 f13 f14 f15 f16 f17 f18 f19 k0 k25 k33 k34 hI c_1 o_2 o_3 f_4 o_6 c_7)) (i32 (x1 + 1)) (figs ((s.2 6) 0) ((s.2 6) 1) x1 f11) f_4 f13 f14 f15 f16 f17 f18 f19 k0 k25 k33 k34 rfl rfl rfl (vX3_odd_6 s hp x1 f11 f12 f13 f14 f15 f16 f17 f18 f19 k0 k25 k33 k34 hI c_1 o_2 o_3 f_4 o_6 c_7)
    · exact ⟨(figs ((s.2 6) 0) ((s.2 6) 1) x1 f11), f_4, f13, f14, f15, f16, f17, f18, f19, k25, k33, k34, (rI_c (vX3_odd_9 s hp x1 f11 f12 f13 f14 f15 f16 f17 f18 f19 k0 k25 k33 k34 hI c_1 o_2 o_3 f_4 o_6 c_7)), (sS_c (sS_c (sS_c (sS_c (sA_c (sA_c (sA_c (sA_c (sA_c (sA_c (sA_c (sA_c (sA_c rfl rfl) rfl) rfl) rfl) rfl) rfl) rfl) rfl) rfl) (vX3_odd_8 s hp x1 f11 f12 f13 f14 f15 f16 f17 f18 f19 k0 k25 k33 k34 hI c_1 o_2 o_3 f_4 o_6 c_7)) rfl) rfl) rfl)⟩
theorem ctX3_odd (b : AH) (s : MS) (hp : tOK (s.2 6) ∧ aOK (s.2 6) (s.2 7) ∧ lOK ((s.2 5) 0) (s.2 6)) : MC mX3_odd 8 b s [] (QX3_odd s) := by
  refine MC.of (by decide) rfl (Nat.le_of_ble_eq_true rfl) (JW.steq (s2 := sS (sS (sS (sS (sA (sA (sA (sA (sA (sA (sA (sA (sA s 11 (s.2 11)) 12 (s.2 12)) 13 (s.2 13)) 14 (s.2 14)) 15 (s.2 15)) 16 (s.2 16)) 17 (s.2 17)) 18 (s.2 18)) 19 (s.2 19)) 0 (s.1 0)) 25 (s.1 25)) 33 (s.1 33)) 34 (s.1 34)) (by simp only [sA_id, sS_id]) ?_)
  refine bX3_odd_0 b s (s.2 11) (s.2 12) (s.2 13) (s.2 14) (s.2 15) (s.2 16) (s.2 17) (s.2 18) (s.2 19) (s.1 0) (s.1 25) (s.1 33) (s.1 34) ?_
  refine ⟨fun c_2 => ?_, fun c_2 => ?_⟩
  · have o_3 : (tOK (s.2 6) ∧ aOK (s.2 6) (s.2 7)) := (vX3_odd_10 s hp c_2)
    refine ⟨o_3, ?_⟩
    intro f_4 f_5 f_6 k_7 q_8
    exact (allX3_odd b s hp _ _ _) 0 f_4 f_5 f_6 (s.2 14) (s.2 15) (s.2 16) (s.2 17) (s.2 18) (s.2 19) 0 k_7 (s.1 33) (s.1 34) rfl rfl rfl (vX3_odd_11 s hp c_2 o_3 f_4 f_5 f_6 k_7 q_8)
  · exact ⟨(s.2 11), (s.2 12), (s.2 13), (s.2 14), (s.2 15), (s.2 16), (s.2 17), (s.2 18), (s.2 19), (s.1 25), (s.1 33), (s.1 34), (rI_c (vX3_odd_12 s hp c_2)), rfl⟩
