/-! contracts of the component: laysRounds -/
set_option maxRecDepth 100000
def HX0_laysRounds_0 (Q : Option AV → MS → Prop) (b : AH) (s : MS) (t : Nat → Int → Int) (f14 : Int → Int) (f15 : Int → Int) (f16 : Int → Int) (f17 : Int → Int) : Prop := XM mX0_laysRounds 3 Q b 0 [(0, vR 320)] [] (sA (sA (sA (sA s 14 f14) 15 f15) 16 f16) 17 f17)
def HX0_laysRounds_2 (Q : Option AV → MS → Prop) (b : AH) (s : MS) (t : Nat → Int → Int) (x1 : Int) (f14 : Int → Int) (f15 : Int → Int) (f16 : Int → Int) (f17 : Int → Int) : Prop := XM mX0_laysRounds 3 Q b 2 [(0, vR 320), (1, vI x1)] [] (sA (sA (sA (sA s 14 f14) 15 f15) 16 f16) 17 f17)
def HX0_laysRounds_28 (Q : Option AV → MS → Prop) (b : AH) (s : MS) (t : Nat → Int → Int) (x1 : Int) (f14 : Int → Int) (f15 : Int → Int) (f16 : Int → Int) (f17 : Int → Int) : Prop := XM mX0_laysRounds 3 Q b 28 [(0, vR 320), (1, vI x1)] [] (sA (sA (sA (sA s 14 f14) 15 f15) 16 f16) 17 f17)
def HX0_laysRounds_43 (Q : Option AV → MS → Prop) (b : AH) (s : MS) (t : Nat → Int → Int) (x1 : Int) (x2 : Int) (x3 : Int) (f14 : Int → Int) (f15 : Int → Int) (f16 : Int → Int) (f17 : Int → Int) : Prop := XM mX0_laysRounds 3 Q b 43 [(0, vR 320), (1, vI x1), (2, vI x2), (3, vI x3)] [] (sA (sA (sA (sA s 14 f14) 15 f15) 16 f16) 17 f17)
def HX0_laysRounds_95 (Q : Option AV → MS → Prop) (b : AH) (s : MS) (t : Nat → Int → Int) (x1 : Int) (x2 : Int) (x3 : Int) (x4 : Int) (f14 : Int → Int) (f15 : Int → Int) (f16 : Int → Int) (f17 : Int → Int) : Prop := XM mX0_laysRounds 3 Q b 95 [(0, vR 320), (1, vI x1), (2, vI x2), (3, vI x3), (4, vI x4)] [] (sA (sA (sA (sA s 14 f14) 15 f15) 16 f16) 17 f17)
def HX0_laysRounds_122 (Q : Option AV → MS → Prop) (b : AH) (s : MS) (t : Nat → Int → Int) (x1 : Int) (x5 : Int) (f14 : Int → Int) (f15 : Int → Int) (f16 : Int → Int) (f17 : Int → Int) : Prop := XM mX0_laysRounds 3 Q b 122 [(0, vR 320), (1, vI x1), (5, vI x5)] [] (sA (sA (sA (sA s 14 f14) 15 f15) 16 f16) 17 f17)
theorem bX0_laysRounds_0 {Q : Option AV → MS → Prop} (b : AH) (s : MS) (t : Nat → Int → Int) (f14 : Int → Int) (f15 : Int → Int) (f16 : Int → Int) (f17 : Int → Int) (hT : XTs b s t) (K : HX0_laysRounds_2 Q b s t 0 f14 f15 f16 f17) : HX0_laysRounds_0 Q b s t f14 f15 f16 f17 := by
  refine JW.iconst dX0_laysRounds_0 rfl ?_
  refine JW.istore_n (ls' := [(0, vR 320), (1, vI 0)]) dX0_laysRounds_1 (Nat.le_of_ble_eq_true rfl) rfl ?_
  exact JW.pick [0, 1] rfl K
theorem bX0_laysRounds_2 {Q : Option AV → MS → Prop} (b : AH) (s : MS) (t : Nat → Int → Int) (x1 : Int) (f14 : Int → Int) (f15 : Int → Int) (f16 : Int → Int) (f17 : Int → Int) (hT : XTs b s t) (K : ((t 0 2) ≤ x1 → HX0_laysRounds_28 Q b s t 0 f14 f15 f16 f17) ∧ (¬ (t 0 2) ≤ x1 → (0 ≤ x1 ∧ x1 < 10000) ∧ (HX0_laysRounds_2 Q b s t (i32 (x1 + 1)) (upI f14 x1 (-1)) f15 f16 f17))) : HX0_laysRounds_2 Q b s t x1 f14 f15 f16 f17 := by
  refine JW.iload_n dX0_laysRounds_2 rfl ?_
  refine JW.aload_n dX0_laysRounds_3 rfl ?_
  refine JW.xtab (y := s.1 3) hT dX0_laysRounds_4 fX0_48 rfl ?_
  refine JW.tget hT.2 dX0_laysRounds_7 fX0_201 (by decide) hT.2.2.2.1.2.2.1 ?_
  refine JW.icmp_ge (tgt := 26) dX0_laysRounds_10 rfl (fun c_1 => ?_) (fun c_1 => ?_)
  · have K := K.1 c_1
    refine JW.iconst dX0_laysRounds_26 rfl ?_
    refine JW.istore_n (ls' := [(0, vR 320), (1, vI 0)]) dX0_laysRounds_27 (Nat.le_of_ble_eq_true rfl) rfl ?_
    exact JW.pick [0, 1] rfl K
  · have K := K.2 c_1
    refine JW.aload_n dX0_laysRounds_13 rfl ?_
    refine JW.xget (v := vR 335) dX0_laysRounds_14 fX0_123 rfl ?_
    refine JW.iload_n dX0_laysRounds_17 rfl ?_
    refine JW.iconst dX0_laysRounds_18 rfl ?_
    obtain ⟨o_2, K⟩ := K
    refine JW.xast 14 (f := f14) dX0_laysRounds_19 (by decide) rfl o_2.1 o_2.2 rfl ?_
    refine JW.xsteq (s2 := sA (sA (sA (sA s 14 (upI f14 x1 (-1))) 15 f15) 16 f16) 17 f17) (by simp only [sA_A, sS_S, sA_S, sA_lt, sS_lt, Nat.reduceLT, id_eq] <;> rfl) ?_
    refine JW.iinc (ls' := [(0, vR 320), (1, vI (i32 (x1 + 1)))]) dX0_laysRounds_20 (Nat.le_of_ble_eq_true rfl) rfl rfl ?_
    refine JW.goto (tgt := 2) dX0_laysRounds_23 rfl ?_
    exact JW.pick [0, 1] rfl K
theorem bX0_laysRounds_28 {Q : Option AV → MS → Prop} (b : AH) (s : MS) (t : Nat → Int → Int) (x1 : Int) (f14 : Int → Int) (f15 : Int → Int) (f16 : Int → Int) (f17 : Int → Int) (hT : XTs b s t) (K : ((t 0 2) ≤ x1 → Q none (sA (sA (sA (sA s 14 f14) 15 f15) 16 f16) 17 f17)) ∧ (¬ (t 0 2) ≤ x1 → HX0_laysRounds_43 Q b s t x1 0 x1 f14 f15 f16 f17)) : HX0_laysRounds_28 Q b s t x1 f14 f15 f16 f17 := by
  refine JW.iload_n dX0_laysRounds_28 rfl ?_
  refine JW.aload_n dX0_laysRounds_29 rfl ?_
  refine JW.xtab (y := s.1 3) hT dX0_laysRounds_30 fX0_48 rfl ?_
  refine JW.tget hT.2 dX0_laysRounds_33 fX0_201 (by decide) hT.2.2.2.1.2.2.1 ?_
  refine JW.icmp_ge (tgt := 199) dX0_laysRounds_36 rfl (fun c_1 => ?_) (fun c_1 => ?_)
  · have K := K.1 c_1
    exact JW.vreturn dX0_laysRounds_199 rfl ⟨_, rfl, K⟩
  · have K := K.2 c_1
    refine JW.iconst dX0_laysRounds_39 rfl ?_
    refine JW.istore_n (ls' := [(0, vR 320), (1, vI x1), (2, vI 0)]) dX0_laysRounds_40 (Nat.le_of_ble_eq_true rfl) rfl ?_
    refine JW.iload_n dX0_laysRounds_41 rfl ?_
    refine JW.istore_n (ls' := [(0, vR 320), (1, vI x1), (2, vI 0), (3, vI x1)]) dX0_laysRounds_42 (Nat.le_of_ble_eq_true rfl) rfl ?_
    exact JW.pick [0, 1, 2, 3] rfl K
theorem bX0_laysRounds_43 {Q : Option AV → MS → Prop} (b : AH) (s : MS) (t : Nat → Int → Int) (x1 : Int) (x2 : Int) (x3 : Int) (f14 : Int → Int) (f15 : Int → Int) (f16 : Int → Int) (f17 : Int → Int) (hT : XTs b s t) (K : (0 ≤ x3 ∧ x3 < 10000) ∧ ((¬ (f14 x3) = (-1) → (¬ (f14 x3) = (-2) → HX0_laysRounds_122 Q b s t x1 (i32 (x2 - 1)) f14 f15 f16 f17) ∧ ((f14 x3) = (-2) → HX0_laysRounds_95 Q b s t x1 x2 x3 x2 f14 f15 f16 f17)) ∧ ((f14 x3) = (-1) → (0 ≤ x2 ∧ x2 < 10000) ∧ (HX0_laysRounds_43 Q b s t x1 (i32 (x2 + 1)) (s.2 13 x3) (upI f14 x3 (-2)) f15 f16 (upI f17 x2 x3))))) : HX0_laysRounds_43 Q b s t x1 x2 x3 f14 f15 f16 f17 := by
  refine JW.aload_n dX0_laysRounds_43 rfl ?_
  refine JW.xget (v := vR 335) dX0_laysRounds_44 fX0_123 rfl ?_
  refine JW.iload_n dX0_laysRounds_47 rfl ?_
  obtain ⟨o_1, K⟩ := K
  refine JW.xald 14 (x := (f14 x3)) dX0_laysRounds_48 (by decide) rfl o_1.1 o_1.2 rfl ?_
  refine JW.iconst dX0_laysRounds_49 rfl ?_
  refine JW.icmp_ne (tgt := 81) dX0_laysRounds_50 rfl (fun c_2 => ?_) (fun c_2 => ?_)
  · have K := K.1 c_2
    refine JW.iload_n dX0_laysRounds_81 rfl ?_
    refine JW.istore (ls' := [(0, vR 320), (1, vI x1), (2, vI x2), (3, vI x3), (4, vI x2)]) dX0_laysRounds_82 (Nat.le_of_ble_eq_true rfl) rfl ?_
    refine JW.aload_n dX0_laysRounds_84 rfl ?_
    refine JW.xget (v := vR 335) dX0_laysRounds_85 fX0_123 rfl ?_
    refine JW.iload_n dX0_laysRounds_88 rfl ?_
    refine JW.xald 14 (x := (f14 x3)) dX0_laysRounds_89 (by decide) rfl o_1.1 o_1.2 rfl ?_
    refine JW.bipush dX0_laysRounds_90 rfl ?_
    refine JW.icmp_ne (tgt := 116) dX0_laysRounds_92 rfl (fun c_3 => ?_) (fun c_3 => ?_)
    · have K := K.1 c_3
      refine JW.iload dX0_laysRounds_116 rfl ?_
      refine JW.iconst dX0_laysRounds_118 rfl ?_
      refine JW.isub dX0_laysRounds_119 ?_
      refine JW.istore (ls' := [(0, vR 320), (1, vI x1), (2, vI x2), (3, vI x3), (4, vI x2), (5, vI (i32 (x2 - 1)))]) dX0_laysRounds_120 (Nat.le_of_ble_eq_true rfl) rfl ?_
      exact JW.pick [0, 1, 5] rfl K
    · have K := K.2 c_3
      exact JW.pick [0, 1, 2, 3, 4] rfl K
  · have K := K.2 c_2
    refine JW.aload_n dX0_laysRounds_53 rfl ?_
    refine JW.xget (v := vR 335) dX0_laysRounds_54 fX0_123 rfl ?_
    refine JW.iload_n dX0_laysRounds_57 rfl ?_
    refine JW.bipush dX0_laysRounds_58 rfl ?_
    refine JW.xast 14 (f := f14) dX0_laysRounds_60 (by decide) rfl o_1.1 o_1.2 rfl ?_
    refine JW.xsteq (s2 := sA (sA (sA (sA s 14 (upI f14 x3 (-2))) 15 f15) 16 f16) 17 f17) (by simp only [sA_A, sS_S, sA_S, sA_lt, sS_lt, Nat.reduceLT, id_eq] <;> rfl) ?_
    refine JW.aload_n dX0_laysRounds_61 rfl ?_
    refine JW.xget (v := vR 338) dX0_laysRounds_62 fX0_132 rfl ?_
    refine JW.iload_n dX0_laysRounds_65 rfl ?_
    refine JW.iload_n dX0_laysRounds_66 rfl ?_
    obtain ⟨o_4, K⟩ := K
    refine JW.xast 17 (f := f17) dX0_laysRounds_67 (by decide) rfl o_4.1 o_4.2 rfl ?_
    refine JW.xsteq (s2 := sA (sA (sA (sA s 14 (upI f14 x3 (-2))) 15 f15) 16 f16) 17 (upI f17 x2 x3)) (by simp only [sA_A, sS_S, sA_S, sA_lt, sS_lt, Nat.reduceLT, id_eq] <;> rfl) ?_
    refine JW.iinc (ls' := [(0, vR 320), (1, vI x1), (2, vI (i32 (x2 + 1))), (3, vI x3)]) dX0_laysRounds_68 (Nat.le_of_ble_eq_true rfl) rfl rfl ?_
    refine JW.aload_n dX0_laysRounds_71 rfl ?_
    refine JW.xget (v := vR 334) dX0_laysRounds_72 fX0_120 rfl ?_
    refine JW.iload_n dX0_laysRounds_75 rfl ?_
    refine JW.xald 13 (x := (s.2 13 x3)) dX0_laysRounds_76 (by decide) rfl o_1.1 o_1.2 rfl ?_
    refine JW.istore_n (ls' := [(0, vR 320), (1, vI x1), (2, vI (i32 (x2 + 1))), (3, vI (s.2 13 x3))]) dX0_laysRounds_77 (Nat.le_of_ble_eq_true rfl) rfl ?_
    refine JW.goto (tgt := 43) dX0_laysRounds_78 rfl ?_
    exact JW.pick [0, 1, 2, 3] rfl K
theorem bX0_laysRounds_95 {Q : Option AV → MS → Prop} (b : AH) (s : MS) (t : Nat → Int → Int) (x1 : Int) (x2 : Int) (x3 : Int) (x4 : Int) (f14 : Int → Int) (f15 : Int → Int) (f16 : Int → Int) (f17 : Int → Int) (hT : XTs b s t) (K : (0 ≤ (i32 (x4 + (-1))) ∧ (i32 (x4 + (-1))) < 10000) ∧ ((¬ (f17 (i32 (x4 + (-1)))) = x3 → HX0_laysRounds_95 Q b s t x1 x2 x3 (i32 (x4 + (-1))) f14 f15 f16 f17) ∧ ((f17 (i32 (x4 + (-1)))) = x3 → ((0 ≤ (i32 (x4 + (-1))) ∧ (i32 (x4 + (-1))) < x2 ∧ x2 ≤ 10000) ∧ ∀ i : Int, (i32 (x4 + (-1))) ≤ i → i < x2 → 0 ≤ f17 i ∧ f17 i < 10000) ∧ ((∀ (f_4 : Int → Int) (f_5 : Int → Int) (f_6 : Int → Int), (lrQ f17 (i32 (x4 + (-1))) x2 f14 f15 f16 f_4 f_5 f_6) → HX0_laysRounds_122 Q b s t x1 (i32 ((i32 (x4 + (-1))) - 1)) f_4 f_5 f_6 f17))))) : HX0_laysRounds_95 Q b s t x1 x2 x3 x4 f14 f15 f16 f17 := by
  refine JW.iinc (ls' := [(0, vR 320), (1, vI x1), (2, vI x2), (3, vI x3), (4, vI (i32 (x4 + (-1))))]) dX0_laysRounds_95 (Nat.le_of_ble_eq_true rfl) rfl rfl ?_
  refine JW.aload_n dX0_laysRounds_98 rfl ?_
  refine JW.xget (v := vR 338) dX0_laysRounds_99 fX0_132 rfl ?_
  refine JW.iload dX0_laysRounds_102 rfl ?_
  obtain ⟨o_1, K⟩ := K
  refine JW.xald 17 (x := (f17 (i32 (x4 + (-1))))) dX0_laysRounds_104 (by decide) rfl o_1.1 o_1.2 rfl ?_
  refine JW.iload_n dX0_laysRounds_105 rfl ?_
  refine JW.icmp_ne (tgt := 95) dX0_laysRounds_106 rfl (fun c_2 => ?_) (fun c_2 => ?_)
  · have K := K.1 c_2
    exact JW.pick [0, 1, 2, 3, 4] rfl K
  · have K := K.2 c_2
    refine JW.aload_n dX0_laysRounds_109 rfl ?_
    refine JW.iload dX0_laysRounds_110 rfl ?_
    refine JW.iload_n dX0_laysRounds_112 rfl ?_
    obtain ⟨o_3, K⟩ := K
    refine JW.xcall (As := [vI (i32 (x4 + (-1))), vI x2]) dX0_laysRounds_113 vX0_laysRound rfl q1084 (ctX0_laysRound b (sA (sA (sA (sA s 14 f14) 15 f15) 16 f16) 17 f17) t (i32 (x4 + (-1))) x2 hT o_3) (Nat.le_of_ble_eq_true rfl) rfl (Nat.le_of_ble_eq_true rfl) ?_
    rintro _ _ ⟨f_4, f_5, f_6, rfl, rfl, q_7⟩
    refine JW.xsteq (s2 := sA (sA (sA (sA s 14 f_4) 15 f_5) 16 f_6) 17 f17) (by simp only [sA_A, sS_S, sA_S, sA_lt, sS_lt, Nat.reduceLT, id_eq] <;> rfl) ?_
    replace K := K f_4 f_5 f_6 q_7
    refine JW.iload dX0_laysRounds_116 rfl ?_
    refine JW.iconst dX0_laysRounds_118 rfl ?_
    refine JW.isub dX0_laysRounds_119 ?_
    refine JW.istore (ls' := [(0, vR 320), (1, vI x1), (2, vI x2), (3, vI x3), (4, vI (i32 (x4 + (-1)))), (5, vI (i32 ((i32 (x4 + (-1))) - 1)))]) dX0_laysRounds_120 (Nat.le_of_ble_eq_true rfl) rfl ?_
    exact JW.pick [0, 1, 5] rfl K
theorem bX0_laysRounds_122 {Q : Option AV → MS → Prop} (b : AH) (s : MS) (t : Nat → Int → Int) (x1 : Int) (x5 : Int) (f14 : Int → Int) (f15 : Int → Int) (f16 : Int → Int) (f17 : Int → Int) (hT : XTs b s t) (K : (x5 < 0 → HX0_laysRounds_28 Q b s t (i32 (x1 + 1)) f14 f15 f16 f17) ∧ (¬ x5 < 0 → (0 ≤ x5 ∧ x5 < 10000) ∧ ((0 ≤ (f17 x5) ∧ (f17 x5) < 10000) ∧ ((0 ≤ (s.2 13 (f17 x5)) ∧ (s.2 13 (f17 x5)) < 10000) ∧ (HX0_laysRounds_122 Q b s t x1 (i32 (x5 + (-1))) (upI f14 (f17 x5) (i32 ((f14 (s.2 13 (f17 x5))) + 1))) (upI f15 (f17 x5) (f15 (s.2 13 (f17 x5)))) f16 f17))))) : HX0_laysRounds_122 Q b s t x1 x5 f14 f15 f16 f17 := by
  refine JW.iload dX0_laysRounds_122 rfl ?_
  refine JW.if_lt (tgt := 193) dX0_laysRounds_124 rfl (fun c_1 => ?_) (fun c_1 => ?_)
  · have K := K.1 c_1
    refine JW.iinc (ls' := [(0, vR 320), (1, vI (i32 (x1 + 1))), (5, vI x5)]) dX0_laysRounds_193 (Nat.le_of_ble_eq_true rfl) rfl rfl ?_
    refine JW.goto (tgt := 28) dX0_laysRounds_196 rfl ?_
    exact JW.pick [0, 1] rfl K
  · have K := K.2 c_1
    refine JW.aload_n dX0_laysRounds_127 rfl ?_
    refine JW.xget (v := vR 335) dX0_laysRounds_128 fX0_123 rfl ?_
    refine JW.aload_n dX0_laysRounds_131 rfl ?_
    refine JW.xget (v := vR 338) dX0_laysRounds_132 fX0_132 rfl ?_
    refine JW.iload dX0_laysRounds_135 rfl ?_
    obtain ⟨o_2, K⟩ := K
    refine JW.xald 17 (x := (f17 x5)) dX0_laysRounds_137 (by decide) rfl o_2.1 o_2.2 rfl ?_
    refine JW.aload_n dX0_laysRounds_138 rfl ?_
    refine JW.xget (v := vR 335) dX0_laysRounds_139 fX0_123 rfl ?_
    refine JW.aload_n dX0_laysRounds_142 rfl ?_
    refine JW.xget (v := vR 334) dX0_laysRounds_143 fX0_120 rfl ?_
    refine JW.aload_n dX0_laysRounds_146 rfl ?_
    refine JW.xget (v := vR 338) dX0_laysRounds_147 fX0_132 rfl ?_
    refine JW.iload dX0_laysRounds_150 rfl ?_
    refine JW.xald 17 (x := (f17 x5)) dX0_laysRounds_152 (by decide) rfl o_2.1 o_2.2 rfl ?_
    obtain ⟨o_3, K⟩ := K
    refine JW.xald 13 (x := (s.2 13 (f17 x5))) dX0_laysRounds_153 (by decide) rfl o_3.1 o_3.2 rfl ?_
    obtain ⟨o_4, K⟩ := K
    refine JW.xald 14 (x := (f14 (s.2 13 (f17 x5)))) dX0_laysRounds_154 (by decide) rfl o_4.1 o_4.2 rfl ?_
    refine JW.iconst dX0_laysRounds_155 rfl ?_
    refine JW.iadd dX0_laysRounds_156 ?_
    refine JW.xast 14 (f := f14) dX0_laysRounds_157 (by decide) rfl o_3.1 o_3.2 rfl ?_
    refine JW.xsteq (s2 := sA (sA (sA (sA s 14 (upI f14 (f17 x5) (i32 ((f14 (s.2 13 (f17 x5))) + 1)))) 15 f15) 16 f16) 17 f17) (by simp only [sA_A, sS_S, sA_S, sA_lt, sS_lt, Nat.reduceLT, id_eq] <;> rfl) ?_
    refine JW.aload_n dX0_laysRounds_158 rfl ?_
    refine JW.xget (v := vR 336) dX0_laysRounds_159 fX0_126 rfl ?_
    refine JW.aload_n dX0_laysRounds_162 rfl ?_
    refine JW.xget (v := vR 338) dX0_laysRounds_163 fX0_132 rfl ?_
    refine JW.iload dX0_laysRounds_166 rfl ?_
    refine JW.xald 17 (x := (f17 x5)) dX0_laysRounds_168 (by decide) rfl o_2.1 o_2.2 rfl ?_
    refine JW.aload_n dX0_laysRounds_169 rfl ?_
    refine JW.xget (v := vR 336) dX0_laysRounds_170 fX0_126 rfl ?_
    refine JW.aload_n dX0_laysRounds_173 rfl ?_
    refine JW.xget (v := vR 334) dX0_laysRounds_174 fX0_120 rfl ?_
    refine JW.aload_n dX0_laysRounds_177 rfl ?_
    refine JW.xget (v := vR 338) dX0_laysRounds_178 fX0_132 rfl ?_
    refine JW.iload dX0_laysRounds_181 rfl ?_
    refine JW.xald 17 (x := (f17 x5)) dX0_laysRounds_183 (by decide) rfl o_2.1 o_2.2 rfl ?_
    refine JW.xald 13 (x := (s.2 13 (f17 x5))) dX0_laysRounds_184 (by decide) rfl o_3.1 o_3.2 rfl ?_
    refine JW.xald 15 (x := (f15 (s.2 13 (f17 x5)))) dX0_laysRounds_185 (by decide) rfl o_4.1 o_4.2 rfl ?_
    refine JW.xast 15 (f := f15) dX0_laysRounds_186 (by decide) rfl o_3.1 o_3.2 rfl ?_
    refine JW.xsteq (s2 := sA (sA (sA (sA s 14 (upI f14 (f17 x5) (i32 ((f14 (s.2 13 (f17 x5))) + 1)))) 15 (upI f15 (f17 x5) (f15 (s.2 13 (f17 x5))))) 16 f16) 17 f17) (by simp only [sA_A, sS_S, sA_S, sA_lt, sS_lt, Nat.reduceLT, id_eq] <;> rfl) ?_
    refine JW.iinc (ls' := [(0, vR 320), (1, vI x1), (5, vI (i32 (x5 + (-1))))]) dX0_laysRounds_187 (Nat.le_of_ble_eq_true rfl) rfl rfl ?_
    refine JW.goto (tgt := 122) dX0_laysRounds_190 rfl ?_
    exact JW.pick [0, 1, 5] rfl K
def QX0_laysRounds (s : MS) (t : Nat → Int → Int) : Option AV → MS → Prop := fun v s' => ∃ (f14 : Int → Int) (f15 : Int → Int) (f16 : Int → Int) (f17 : Int → Int), v = none ∧ s' = sA (sA (sA (sA s 14 f14) 15 f15) 16 f16) 17 f17 ∧ (RO (s.2 13) (t 0 2) f14 f15 f16)
theorem vX0_laysRounds_1 (s : MS) (t : Nat → Int → Int) (hp : tOK (t 0) ∧ rng (s.2 13) (t 0 2)) (x1 : Int) (f14 : Int → Int) (f15 : Int → Int) (f16 : Int → Int) (f17 : Int → Int) (hI : (0 ≤ x1 ∧ x1 ≤ t 0 2) ∧ ∀ y : Int, 0 ≤ y → y < x1 → f14 y = -1) (c_1 : (t 0 2) ≤ x1) : (0 ≤ (0 : Int) ∧ (0 : Int) ≤ t 0 2) ∧ RI (s.2 13) (t 0 2) f14 f15 f16 ∧ upT (0 : Int) f14 := by
  obtain ⟨ht, hg⟩ := hp
  have hN := tOK_N ht
  (try (have h2 := hI; obtain ⟨hx, t0, ⟨hr, hu⟩, hW⟩ := h2; clear hI; have hw := WI_t hg hx.1 hx.2 hW))
  (try (have h2 := hI; obtain ⟨hx, hS, t0, ⟨hr, hu⟩, hW⟩ := h2; clear hI; have hw := WI_t hg hx.1 hx.2 hW; have hs1 := seR_b hS; have hs2 := hS.2))
  (try have hs := WI_s hg hx.1 hx.2 hW c_2)
  (try have hB := BI_s hg hI.1.1 hI.1.2 hI.2.2 (i := x5) (by omega) (by omega))
  (try simp (disch := omega) only [i32_id] at *)
  (try (have e9 : x4 + -1 = x4 - 1 := by omega; simp only [e9] at *))
  (try (have e9 : x5 + -1 = x5 - 1 := by omega; simp only [e9] at *))
  (try unfold lex3)
  (try simp only [bI_0, bI_n, Classical.not_not] at *)
  (try simp (disch := omega) only [i32_id] at *)
  first | done | omega | ((repeat' (with_reducible apply And.intro)) <;> first | assumption | rfl | omega | (exact (RI_0 (g := s.2 13) (N := t 0 2) (m := f15) (r := f16) (fun y y0 y1 => hI.2 y y0 (by omega))).1) | (exact (RI_0 (g := s.2 13) (N := t 0 2) (m := f15) (r := f16) (fun y y0 y1 => hI.2 y y0 (by omega))).2) | (intro y y0 y1; by_cases e : y = x1; (focus (rw [e, upI_s])); (focus (rw [upI_n _ _ e]; exact hI.2 y y0 (by omega)))) | (exact RI_end hI.2.1 hI.2.2 (by omega)) | (exact ⟨f14, hI.2, WI_0 hN.1⟩) | (rw [show x2 - 1 + 1 = x2 by omega]; exact WI_met hg hx.1 hx.2 hr hu hW c_2 c_3) | (exact ⟨WI_on hg hx.1 hx.2 hr hW c_3, Int.le_refl _⟩) | (exact ⟨t0, ⟨hr, hu⟩, hW⟩) | (exact ⟨t0, ⟨hr, hu⟩, hs.2⟩) | (exact seR_s hS (by assumption)) | (intro i i0 i1; have h9 := hw.2.2 i (by omega) i1; omega) | (rw [show x4 - 1 - 1 + 1 = x4 - 1 by omega]; exact WI_laid hg hx.1 hx.2 hr hu hW (by rw [show x4 - 1 + 1 = x4 by omega]; exact hS) (by assumption) q_7) | (have h9 := WI_laid hg hx.1 hx.2 hr hu hW (j := x4 + -1) (by rw [show x4 + -1 + 1 = x4 by omega]; exact hS) c_2 q_7; first | exact h9 | (rw [show x4 + -1 - 1 + 1 = x4 + -1 by omega]; exact h9)) | (exact (BI_end hI.2.2 (by omega)).1) | (exact (BI_end hI.2.2 (by omega)).2) | (rw [show x5 - 1 + 1 = x5 by omega]; exact hB.2.2) | grind [upI])
theorem vX0_laysRounds_2 (s : MS) (t : Nat → Int → Int) (hp : tOK (t 0) ∧ rng (s.2 13) (t 0 2)) (x1 : Int) (f14 : Int → Int) (f15 : Int → Int) (f16 : Int → Int) (f17 : Int → Int) (hI : (0 ≤ x1 ∧ x1 ≤ t 0 2) ∧ ∀ y : Int, 0 ≤ y → y < x1 → f14 y = -1) (c_1 : (t 0 2) ≤ x1) : lex3 1 ((t 0 2 - (0 : Int)).toNat) 0 2 0 ((t 0 2 - x1).toNat) := by
  obtain ⟨ht, hg⟩ := hp
  have hN := tOK_N ht
  (try (have h2 := hI; obtain ⟨hx, t0, ⟨hr, hu⟩, hW⟩ := h2; clear hI; have hw := WI_t hg hx.1 hx.2 hW))
  (try (have h2 := hI; obtain ⟨hx, hS, t0, ⟨hr, hu⟩, hW⟩ := h2; clear hI; have hw := WI_t hg hx.1 hx.2 hW; have hs1 := seR_b hS; have hs2 := hS.2))
  (try have hs := WI_s hg hx.1 hx.2 hW c_2)
  (try have hB := BI_s hg hI.1.1 hI.1.2 hI.2.2 (i := x5) (by omega) (by omega))
  (try simp (disch := omega) only [i32_id] at *)
  (try (have e9 : x4 + -1 = x4 - 1 := by omega; simp only [e9] at *))
  (try (have e9 : x5 + -1 = x5 - 1 := by omega; simp only [e9] at *))
  (try unfold lex3)
  (try simp only [bI_0, bI_n, Classical.not_not] at *)
  (try simp (disch := omega) only [i32_id] at *)
  first | done | omega | ((repeat' (with_reducible apply And.intro)) <;> first | assumption | rfl | omega | (exact (RI_0 (g := s.2 13) (N := t 0 2) (m := f15) (r := f16) (fun y y0 y1 => hI.2 y y0 (by omega))).1) | (exact (RI_0 (g := s.2 13) (N := t 0 2) (m := f15) (r := f16) (fun y y0 y1 => hI.2 y y0 (by omega))).2) | (intro y y0 y1; by_cases e : y = x1; (focus (rw [e, upI_s])); (focus (rw [upI_n _ _ e]; exact hI.2 y y0 (by omega)))) | (exact RI_end hI.2.1 hI.2.2 (by omega)) | (exact ⟨f14, hI.2, WI_0 hN.1⟩) | (rw [show x2 - 1 + 1 = x2 by omega]; exact WI_met hg hx.1 hx.2 hr hu hW c_2 c_3) | (exact ⟨WI_on hg hx.1 hx.2 hr hW c_3, Int.le_refl _⟩) | (exact ⟨t0, ⟨hr, hu⟩, hW⟩) | (exact ⟨t0, ⟨hr, hu⟩, hs.2⟩) | (exact seR_s hS (by assumption)) | (intro i i0 i1; have h9 := hw.2.2 i (by omega) i1; omega) | (rw [show x4 - 1 - 1 + 1 = x4 - 1 by omega]; exact WI_laid hg hx.1 hx.2 hr hu hW (by rw [show x4 - 1 + 1 = x4 by omega]; exact hS) (by assumption) q_7) | (have h9 := WI_laid hg hx.1 hx.2 hr hu hW (j := x4 + -1) (by rw [show x4 + -1 + 1 = x4 by omega]; exact hS) c_2 q_7; first | exact h9 | (rw [show x4 + -1 - 1 + 1 = x4 + -1 by omega]; exact h9)) | (exact (BI_end hI.2.2 (by omega)).1) | (exact (BI_end hI.2.2 (by omega)).2) | (rw [show x5 - 1 + 1 = x5 by omega]; exact hB.2.2) | grind [upI])
theorem vX0_laysRounds_3 (s : MS) (t : Nat → Int → Int) (hp : tOK (t 0) ∧ rng (s.2 13) (t 0 2)) (x1 : Int) (f14 : Int → Int) (f15 : Int → Int) (f16 : Int → Int) (f17 : Int → Int) (hI : (0 ≤ x1 ∧ x1 ≤ t 0 2) ∧ ∀ y : Int, 0 ≤ y → y < x1 → f14 y = -1) (c_1 : ¬ (t 0 2) ≤ x1) : (0 ≤ x1 ∧ x1 < 10000) := by
  obtain ⟨ht, hg⟩ := hp
  have hN := tOK_N ht
  (try (have h2 := hI; obtain ⟨hx, t0, ⟨hr, hu⟩, hW⟩ := h2; clear hI; have hw := WI_t hg hx.1 hx.2 hW))
  (try (have h2 := hI; obtain ⟨hx, hS, t0, ⟨hr, hu⟩, hW⟩ := h2; clear hI; have hw := WI_t hg hx.1 hx.2 hW; have hs1 := seR_b hS; have hs2 := hS.2))
  (try have hs := WI_s hg hx.1 hx.2 hW c_2)
  (try have hB := BI_s hg hI.1.1 hI.1.2 hI.2.2 (i := x5) (by omega) (by omega))
  (try simp (disch := omega) only [i32_id] at *)
  (try (have e9 : x4 + -1 = x4 - 1 := by omega; simp only [e9] at *))
  (try (have e9 : x5 + -1 = x5 - 1 := by omega; simp only [e9] at *))
  (try unfold lex3)
  (try simp only [bI_0, bI_n, Classical.not_not] at *)
  (try simp (disch := omega) only [i32_id] at *)
  first | done | omega | ((repeat' (with_reducible apply And.intro)) <;> first | assumption | rfl | omega | (exact (RI_0 (g := s.2 13) (N := t 0 2) (m := f15) (r := f16) (fun y y0 y1 => hI.2 y y0 (by omega))).1) | (exact (RI_0 (g := s.2 13) (N := t 0 2) (m := f15) (r := f16) (fun y y0 y1 => hI.2 y y0 (by omega))).2) | (intro y y0 y1; by_cases e : y = x1; (focus (rw [e, upI_s])); (focus (rw [upI_n _ _ e]; exact hI.2 y y0 (by omega)))) | (exact RI_end hI.2.1 hI.2.2 (by omega)) | (exact ⟨f14, hI.2, WI_0 hN.1⟩) | (rw [show x2 - 1 + 1 = x2 by omega]; exact WI_met hg hx.1 hx.2 hr hu hW c_2 c_3) | (exact ⟨WI_on hg hx.1 hx.2 hr hW c_3, Int.le_refl _⟩) | (exact ⟨t0, ⟨hr, hu⟩, hW⟩) | (exact ⟨t0, ⟨hr, hu⟩, hs.2⟩) | (exact seR_s hS (by assumption)) | (intro i i0 i1; have h9 := hw.2.2 i (by omega) i1; omega) | (rw [show x4 - 1 - 1 + 1 = x4 - 1 by omega]; exact WI_laid hg hx.1 hx.2 hr hu hW (by rw [show x4 - 1 + 1 = x4 by omega]; exact hS) (by assumption) q_7) | (have h9 := WI_laid hg hx.1 hx.2 hr hu hW (j := x4 + -1) (by rw [show x4 + -1 + 1 = x4 by omega]; exact hS) c_2 q_7; first | exact h9 | (rw [show x4 + -1 - 1 + 1 = x4 + -1 by omega]; exact h9)) | (exact (BI_end hI.2.2 (by omega)).1) | (exact (BI_end hI.2.2 (by omega)).2) | (rw [show x5 - 1 + 1 = x5 by omega]; exact hB.2.2) | grind [upI])
theorem vX0_laysRounds_4 (s : MS) (t : Nat → Int → Int) (hp : tOK (t 0) ∧ rng (s.2 13) (t 0 2)) (x1 : Int) (f14 : Int → Int) (f15 : Int → Int) (f16 : Int → Int) (f17 : Int → Int) (hI : (0 ≤ x1 ∧ x1 ≤ t 0 2) ∧ ∀ y : Int, 0 ≤ y → y < x1 → f14 y = -1) (c_1 : ¬ (t 0 2) ≤ x1) (o_2 : (0 ≤ x1 ∧ x1 < 10000)) : (0 ≤ (i32 (x1 + 1)) ∧ (i32 (x1 + 1)) ≤ t 0 2) ∧ ∀ y : Int, 0 ≤ y → y < (i32 (x1 + 1)) → (upI f14 x1 (-1)) y = -1 := by
  obtain ⟨ht, hg⟩ := hp
  have hN := tOK_N ht
  (try (have h2 := hI; obtain ⟨hx, t0, ⟨hr, hu⟩, hW⟩ := h2; clear hI; have hw := WI_t hg hx.1 hx.2 hW))
  (try (have h2 := hI; obtain ⟨hx, hS, t0, ⟨hr, hu⟩, hW⟩ := h2; clear hI; have hw := WI_t hg hx.1 hx.2 hW; have hs1 := seR_b hS; have hs2 := hS.2))
  (try have hs := WI_s hg hx.1 hx.2 hW c_2)
  (try have hB := BI_s hg hI.1.1 hI.1.2 hI.2.2 (i := x5) (by omega) (by omega))
  (try simp (disch := omega) only [i32_id] at *)
  (try (have e9 : x4 + -1 = x4 - 1 := by omega; simp only [e9] at *))
  (try (have e9 : x5 + -1 = x5 - 1 := by omega; simp only [e9] at *))
  (try unfold lex3)
  (try simp only [bI_0, bI_n, Classical.not_not] at *)
  (try simp (disch := omega) only [i32_id] at *)
  first | done | omega | ((repeat' (with_reducible apply And.intro)) <;> first | assumption | rfl | omega | (exact (RI_0 (g := s.2 13) (N := t 0 2) (m := f15) (r := f16) (fun y y0 y1 => hI.2 y y0 (by omega))).1) | (exact (RI_0 (g := s.2 13) (N := t 0 2) (m := f15) (r := f16) (fun y y0 y1 => hI.2 y y0 (by omega))).2) | (intro y y0 y1; by_cases e : y = x1; (focus (rw [e, upI_s])); (focus (rw [upI_n _ _ e]; exact hI.2 y y0 (by omega)))) | (exact RI_end hI.2.1 hI.2.2 (by omega)) | (exact ⟨f14, hI.2, WI_0 hN.1⟩) | (rw [show x2 - 1 + 1 = x2 by omega]; exact WI_met hg hx.1 hx.2 hr hu hW c_2 c_3) | (exact ⟨WI_on hg hx.1 hx.2 hr hW c_3, Int.le_refl _⟩) | (exact ⟨t0, ⟨hr, hu⟩, hW⟩) | (exact ⟨t0, ⟨hr, hu⟩, hs.2⟩) | (exact seR_s hS (by assumption)) | (intro i i0 i1; have h9 := hw.2.2 i (by omega) i1; omega) | (rw [show x4 - 1 - 1 + 1 = x4 - 1 by omega]; exact WI_laid hg hx.1 hx.2 hr hu hW (by rw [show x4 - 1 + 1 = x4 by omega]; exact hS) (by assumption) q_7) | (have h9 := WI_laid hg hx.1 hx.2 hr hu hW (j := x4 + -1) (by rw [show x4 + -1 + 1 = x4 by omega]; exact hS) c_2 q_7; first | exact h9 | (rw [show x4 + -1 - 1 + 1 = x4 + -1 by omega]; exact h9)) | (exact (BI_end hI.2.2 (by omega)).1) | (exact (BI_end hI.2.2 (by omega)).2) | (rw [show x5 - 1 + 1 = x5 by omega]; exact hB.2.2) | grind [upI])
theorem vX0_laysRounds_5 (s : MS) (t : Nat → Int → Int) (hp : tOK (t 0) ∧ rng (s.2 13) (t 0 2)) (x1 : Int) (f14 : Int → Int) (f15 : Int → Int) (f16 : Int → Int) (f17 : Int → Int) (hI : (0 ≤ x1 ∧ x1 ≤ t 0 2) ∧ ∀ y : Int, 0 ≤ y → y < x1 → f14 y = -1) (c_1 : ¬ (t 0 2) ≤ x1) (o_2 : (0 ≤ x1 ∧ x1 < 10000)) : lex3 2 0 ((t 0 2 - (i32 (x1 + 1))).toNat) 2 0 ((t 0 2 - x1).toNat) := by
  obtain ⟨ht, hg⟩ := hp
  have hN := tOK_N ht
  (try (have h2 := hI; obtain ⟨hx, t0, ⟨hr, hu⟩, hW⟩ := h2; clear hI; have hw := WI_t hg hx.1 hx.2 hW))
  (try (have h2 := hI; obtain ⟨hx, hS, t0, ⟨hr, hu⟩, hW⟩ := h2; clear hI; have hw := WI_t hg hx.1 hx.2 hW; have hs1 := seR_b hS; have hs2 := hS.2))
  (try have hs := WI_s hg hx.1 hx.2 hW c_2)
  (try have hB := BI_s hg hI.1.1 hI.1.2 hI.2.2 (i := x5) (by omega) (by omega))
  (try simp (disch := omega) only [i32_id] at *)
  (try (have e9 : x4 + -1 = x4 - 1 := by omega; simp only [e9] at *))
  (try (have e9 : x5 + -1 = x5 - 1 := by omega; simp only [e9] at *))
  (try unfold lex3)
  (try simp only [bI_0, bI_n, Classical.not_not] at *)
  (try simp (disch := omega) only [i32_id] at *)
  first | done | omega | ((repeat' (with_reducible apply And.intro)) <;> first | assumption | rfl | omega | (exact (RI_0 (g := s.2 13) (N := t 0 2) (m := f15) (r := f16) (fun y y0 y1 => hI.2 y y0 (by omega))).1) | (exact (RI_0 (g := s.2 13) (N := t 0 2) (m := f15) (r := f16) (fun y y0 y1 => hI.2 y y0 (by omega))).2) | (intro y y0 y1; by_cases e : y = x1; (focus (rw [e, upI_s])); (focus (rw [upI_n _ _ e]; exact hI.2 y y0 (by omega)))) | (exact RI_end hI.2.1 hI.2.2 (by omega)) | (exact ⟨f14, hI.2, WI_0 hN.1⟩) | (rw [show x2 - 1 + 1 = x2 by omega]; exact WI_met hg hx.1 hx.2 hr hu hW c_2 c_3) | (exact ⟨WI_on hg hx.1 hx.2 hr hW c_3, Int.le_refl _⟩) | (exact ⟨t0, ⟨hr, hu⟩, hW⟩) | (exact ⟨t0, ⟨hr, hu⟩, hs.2⟩) | (exact seR_s hS (by assumption)) | (intro i i0 i1; have h9 := hw.2.2 i (by omega) i1; omega) | (rw [show x4 - 1 - 1 + 1 = x4 - 1 by omega]; exact WI_laid hg hx.1 hx.2 hr hu hW (by rw [show x4 - 1 + 1 = x4 by omega]; exact hS) (by assumption) q_7) | (have h9 := WI_laid hg hx.1 hx.2 hr hu hW (j := x4 + -1) (by rw [show x4 + -1 + 1 = x4 by omega]; exact hS) c_2 q_7; first | exact h9 | (rw [show x4 + -1 - 1 + 1 = x4 + -1 by omega]; exact h9)) | (exact (BI_end hI.2.2 (by omega)).1) | (exact (BI_end hI.2.2 (by omega)).2) | (rw [show x5 - 1 + 1 = x5 by omega]; exact hB.2.2) | grind [upI])
theorem vX0_laysRounds_6 (s : MS) (t : Nat → Int → Int) (hp : tOK (t 0) ∧ rng (s.2 13) (t 0 2)) (x1 : Int) (f14 : Int → Int) (f15 : Int → Int) (f16 : Int → Int) (f17 : Int → Int) (hI : (0 ≤ x1 ∧ x1 ≤ t 0 2) ∧ RI (s.2 13) (t 0 2) f14 f15 f16 ∧ upT x1 f14) (c_1 : (t 0 2) ≤ x1) : RO (s.2 13) (t 0 2) f14 f15 f16 := by
  obtain ⟨ht, hg⟩ := hp
  have hN := tOK_N ht
  (try (have h2 := hI; obtain ⟨hx, t0, ⟨hr, hu⟩, hW⟩ := h2; clear hI; have hw := WI_t hg hx.1 hx.2 hW))
  (try (have h2 := hI; obtain ⟨hx, hS, t0, ⟨hr, hu⟩, hW⟩ := h2; clear hI; have hw := WI_t hg hx.1 hx.2 hW; have hs1 := seR_b hS; have hs2 := hS.2))
  (try have hs := WI_s hg hx.1 hx.2 hW c_2)
  (try have hB := BI_s hg hI.1.1 hI.1.2 hI.2.2 (i := x5) (by omega) (by omega))
  (try simp (disch := omega) only [i32_id] at *)
  (try (have e9 : x4 + -1 = x4 - 1 := by omega; simp only [e9] at *))
  (try (have e9 : x5 + -1 = x5 - 1 := by omega; simp only [e9] at *))
  (try unfold lex3)
  (try simp only [bI_0, bI_n, Classical.not_not] at *)
  (try simp (disch := omega) only [i32_id] at *)
  first | done | omega | ((repeat' (with_reducible apply And.intro)) <;> first | assumption | rfl | omega | (exact (RI_0 (g := s.2 13) (N := t 0 2) (m := f15) (r := f16) (fun y y0 y1 => hI.2 y y0 (by omega))).1) | (exact (RI_0 (g := s.2 13) (N := t 0 2) (m := f15) (r := f16) (fun y y0 y1 => hI.2 y y0 (by omega))).2) | (intro y y0 y1; by_cases e : y = x1; (focus (rw [e, upI_s])); (focus (rw [upI_n _ _ e]; exact hI.2 y y0 (by omega)))) | (exact RI_end hI.2.1 hI.2.2 (by omega)) | (exact ⟨f14, hI.2, WI_0 hN.1⟩) | (rw [show x2 - 1 + 1 = x2 by omega]; exact WI_met hg hx.1 hx.2 hr hu hW c_2 c_3) | (exact ⟨WI_on hg hx.1 hx.2 hr hW c_3, Int.le_refl _⟩) | (exact ⟨t0, ⟨hr, hu⟩, hW⟩) | (exact ⟨t0, ⟨hr, hu⟩, hs.2⟩) | (exact seR_s hS (by assumption)) | (intro i i0 i1; have h9 := hw.2.2 i (by omega) i1; omega) | (rw [show x4 - 1 - 1 + 1 = x4 - 1 by omega]; exact WI_laid hg hx.1 hx.2 hr hu hW (by rw [show x4 - 1 + 1 = x4 by omega]; exact hS) (by assumption) q_7) | (have h9 := WI_laid hg hx.1 hx.2 hr hu hW (j := x4 + -1) (by rw [show x4 + -1 + 1 = x4 by omega]; exact hS) c_2 q_7; first | exact h9 | (rw [show x4 + -1 - 1 + 1 = x4 + -1 by omega]; exact h9)) | (exact (BI_end hI.2.2 (by omega)).1) | (exact (BI_end hI.2.2 (by omega)).2) | (rw [show x5 - 1 + 1 = x5 by omega]; exact hB.2.2) | grind [upI])
theorem vX0_laysRounds_7 (s : MS) (t : Nat → Int → Int) (hp : tOK (t 0) ∧ rng (s.2 13) (t 0 2)) (x1 : Int) (f14 : Int → Int) (f15 : Int → Int) (f16 : Int → Int) (f17 : Int → Int) (hI : (0 ≤ x1 ∧ x1 ≤ t 0 2) ∧ RI (s.2 13) (t 0 2) f14 f15 f16 ∧ upT x1 f14) (c_1 : ¬ (t 0 2) ≤ x1) : (0 ≤ x1 ∧ x1 < t 0 2) ∧ ∃ t0, (RI (s.2 13) (t 0 2) t0 f15 f16 ∧ upT x1 t0) ∧ WI (s.2 13) (t 0 2) x1 (0 : Int) x1 t0 f14 f17 := by
  obtain ⟨ht, hg⟩ := hp
  have hN := tOK_N ht
  (try (have h2 := hI; obtain ⟨hx, t0, ⟨hr, hu⟩, hW⟩ := h2; clear hI; have hw := WI_t hg hx.1 hx.2 hW))
  (try (have h2 := hI; obtain ⟨hx, hS, t0, ⟨hr, hu⟩, hW⟩ := h2; clear hI; have hw := WI_t hg hx.1 hx.2 hW; have hs1 := seR_b hS; have hs2 := hS.2))
  (try have hs := WI_s hg hx.1 hx.2 hW c_2)
  (try have hB := BI_s hg hI.1.1 hI.1.2 hI.2.2 (i := x5) (by omega) (by omega))
  (try simp (disch := omega) only [i32_id] at *)
  (try (have e9 : x4 + -1 = x4 - 1 := by omega; simp only [e9] at *))
  (try (have e9 : x5 + -1 = x5 - 1 := by omega; simp only [e9] at *))
  (try unfold lex3)
  (try simp only [bI_0, bI_n, Classical.not_not] at *)
  (try simp (disch := omega) only [i32_id] at *)
  first | done | omega | ((repeat' (with_reducible apply And.intro)) <;> first | assumption | rfl | omega | (exact (RI_0 (g := s.2 13) (N := t 0 2) (m := f15) (r := f16) (fun y y0 y1 => hI.2 y y0 (by omega))).1) | (exact (RI_0 (g := s.2 13) (N := t 0 2) (m := f15) (r := f16) (fun y y0 y1 => hI.2 y y0 (by omega))).2) | (intro y y0 y1; by_cases e : y = x1; (focus (rw [e, upI_s])); (focus (rw [upI_n _ _ e]; exact hI.2 y y0 (by omega)))) | (exact RI_end hI.2.1 hI.2.2 (by omega)) | (exact ⟨f14, hI.2, WI_0 hN.1⟩) | (rw [show x2 - 1 + 1 = x2 by omega]; exact WI_met hg hx.1 hx.2 hr hu hW c_2 c_3) | (exact ⟨WI_on hg hx.1 hx.2 hr hW c_3, Int.le_refl _⟩) | (exact ⟨t0, ⟨hr, hu⟩, hW⟩) | (exact ⟨t0, ⟨hr, hu⟩, hs.2⟩) | (exact seR_s hS (by assumption)) | (intro i i0 i1; have h9 := hw.2.2 i (by omega) i1; omega) | (rw [show x4 - 1 - 1 + 1 = x4 - 1 by omega]; exact WI_laid hg hx.1 hx.2 hr hu hW (by rw [show x4 - 1 + 1 = x4 by omega]; exact hS) (by assumption) q_7) | (have h9 := WI_laid hg hx.1 hx.2 hr hu hW (j := x4 + -1) (by rw [show x4 + -1 + 1 = x4 by omega]; exact hS) c_2 q_7; first | exact h9 | (rw [show x4 + -1 - 1 + 1 = x4 + -1 by omega]; exact h9)) | (exact (BI_end hI.2.2 (by omega)).1) | (exact (BI_end hI.2.2 (by omega)).2) | (rw [show x5 - 1 + 1 = x5 by omega]; exact hB.2.2) | grind [upI])
theorem vX0_laysRounds_8 (s : MS) (t : Nat → Int → Int) (hp : tOK (t 0) ∧ rng (s.2 13) (t 0 2)) (x1 : Int) (f14 : Int → Int) (f15 : Int → Int) (f16 : Int → Int) (f17 : Int → Int) (hI : (0 ≤ x1 ∧ x1 ≤ t 0 2) ∧ RI (s.2 13) (t 0 2) f14 f15 f16 ∧ upT x1 f14) (c_1 : ¬ (t 0 2) ≤ x1) : lex3 1 ((t 0 2 - x1).toNat - 1) (40000 + (t 0 2 - (0 : Int)).toNat) 1 ((t 0 2 - x1).toNat) 0 := by
  obtain ⟨ht, hg⟩ := hp
  have hN := tOK_N ht
  (try (have h2 := hI; obtain ⟨hx, t0, ⟨hr, hu⟩, hW⟩ := h2; clear hI; have hw := WI_t hg hx.1 hx.2 hW))
  (try (have h2 := hI; obtain ⟨hx, hS, t0, ⟨hr, hu⟩, hW⟩ := h2; clear hI; have hw := WI_t hg hx.1 hx.2 hW; have hs1 := seR_b hS; have hs2 := hS.2))
  (try have hs := WI_s hg hx.1 hx.2 hW c_2)
  (try have hB := BI_s hg hI.1.1 hI.1.2 hI.2.2 (i := x5) (by omega) (by omega))
  (try simp (disch := omega) only [i32_id] at *)
  (try (have e9 : x4 + -1 = x4 - 1 := by omega; simp only [e9] at *))
  (try (have e9 : x5 + -1 = x5 - 1 := by omega; simp only [e9] at *))
  (try unfold lex3)
  (try simp only [bI_0, bI_n, Classical.not_not] at *)
  (try simp (disch := omega) only [i32_id] at *)
  first | done | omega | ((repeat' (with_reducible apply And.intro)) <;> first | assumption | rfl | omega | (exact (RI_0 (g := s.2 13) (N := t 0 2) (m := f15) (r := f16) (fun y y0 y1 => hI.2 y y0 (by omega))).1) | (exact (RI_0 (g := s.2 13) (N := t 0 2) (m := f15) (r := f16) (fun y y0 y1 => hI.2 y y0 (by omega))).2) | (intro y y0 y1; by_cases e : y = x1; (focus (rw [e, upI_s])); (focus (rw [upI_n _ _ e]; exact hI.2 y y0 (by omega)))) | (exact RI_end hI.2.1 hI.2.2 (by omega)) | (exact ⟨f14, hI.2, WI_0 hN.1⟩) | (rw [show x2 - 1 + 1 = x2 by omega]; exact WI_met hg hx.1 hx.2 hr hu hW c_2 c_3) | (exact ⟨WI_on hg hx.1 hx.2 hr hW c_3, Int.le_refl _⟩) | (exact ⟨t0, ⟨hr, hu⟩, hW⟩) | (exact ⟨t0, ⟨hr, hu⟩, hs.2⟩) | (exact seR_s hS (by assumption)) | (intro i i0 i1; have h9 := hw.2.2 i (by omega) i1; omega) | (rw [show x4 - 1 - 1 + 1 = x4 - 1 by omega]; exact WI_laid hg hx.1 hx.2 hr hu hW (by rw [show x4 - 1 + 1 = x4 by omega]; exact hS) (by assumption) q_7) | (have h9 := WI_laid hg hx.1 hx.2 hr hu hW (j := x4 + -1) (by rw [show x4 + -1 + 1 = x4 by omega]; exact hS) c_2 q_7; first | exact h9 | (rw [show x4 + -1 - 1 + 1 = x4 + -1 by omega]; exact h9)) | (exact (BI_end hI.2.2 (by omega)).1) | (exact (BI_end hI.2.2 (by omega)).2) | (rw [show x5 - 1 + 1 = x5 by omega]; exact hB.2.2) | grind [upI])
theorem vX0_laysRounds_9 (s : MS) (t : Nat → Int → Int) (hp : tOK (t 0) ∧ rng (s.2 13) (t 0 2)) (x1 : Int) (x2 : Int) (x3 : Int) (f14 : Int → Int) (f15 : Int → Int) (f16 : Int → Int) (f17 : Int → Int) (hI : (0 ≤ x1 ∧ x1 < t 0 2) ∧ ∃ t0, (RI (s.2 13) (t 0 2) t0 f15 f16 ∧ upT x1 t0) ∧ WI (s.2 13) (t 0 2) x1 x2 x3 t0 f14 f17) : (0 ≤ x3 ∧ x3 < 10000) := by
  obtain ⟨ht, hg⟩ := hp
  have hN := tOK_N ht
  (try (have h2 := hI; obtain ⟨hx, t0, ⟨hr, hu⟩, hW⟩ := h2; clear hI; have hw := WI_t hg hx.1 hx.2 hW))
  (try (have h2 := hI; obtain ⟨hx, hS, t0, ⟨hr, hu⟩, hW⟩ := h2; clear hI; have hw := WI_t hg hx.1 hx.2 hW; have hs1 := seR_b hS; have hs2 := hS.2))
  (try have hs := WI_s hg hx.1 hx.2 hW c_2)
  (try have hB := BI_s hg hI.1.1 hI.1.2 hI.2.2 (i := x5) (by omega) (by omega))
  (try simp (disch := omega) only [i32_id] at *)
  (try (have e9 : x4 + -1 = x4 - 1 := by omega; simp only [e9] at *))
  (try (have e9 : x5 + -1 = x5 - 1 := by omega; simp only [e9] at *))
  (try unfold lex3)
  (try simp only [bI_0, bI_n, Classical.not_not] at *)
  (try simp (disch := omega) only [i32_id] at *)
  first | done | omega | ((repeat' (with_reducible apply And.intro)) <;> first | assumption | rfl | omega | (exact (RI_0 (g := s.2 13) (N := t 0 2) (m := f15) (r := f16) (fun y y0 y1 => hI.2 y y0 (by omega))).1) | (exact (RI_0 (g := s.2 13) (N := t 0 2) (m := f15) (r := f16) (fun y y0 y1 => hI.2 y y0 (by omega))).2) | (intro y y0 y1; by_cases e : y = x1; (focus (rw [e, upI_s])); (focus (rw [upI_n _ _ e]; exact hI.2 y y0 (by omega)))) | (exact RI_end hI.2.1 hI.2.2 (by omega)) | (exact ⟨f14, hI.2, WI_0 hN.1⟩) | (rw [show x2 - 1 + 1 = x2 by omega]; exact WI_met hg hx.1 hx.2 hr hu hW c_2 c_3) | (exact ⟨WI_on hg hx.1 hx.2 hr hW c_3, Int.le_refl _⟩) | (exact ⟨t0, ⟨hr, hu⟩, hW⟩) | (exact ⟨t0, ⟨hr, hu⟩, hs.2⟩) | (exact seR_s hS (by assumption)) | (intro i i0 i1; have h9 := hw.2.2 i (by omega) i1; omega) | (rw [show x4 - 1 - 1 + 1 = x4 - 1 by omega]; exact WI_laid hg hx.1 hx.2 hr hu hW (by rw [show x4 - 1 + 1 = x4 by omega]; exact hS) (by assumption) q_7) | (have h9 := WI_laid hg hx.1 hx.2 hr hu hW (j := x4 + -1) (by rw [show x4 + -1 + 1 = x4 by omega]; exact hS) c_2 q_7; first | exact h9 | (rw [show x4 + -1 - 1 + 1 = x4 + -1 by omega]; exact h9)) | (exact (BI_end hI.2.2 (by omega)).1) | (exact (BI_end hI.2.2 (by omega)).2) | (rw [show x5 - 1 + 1 = x5 by omega]; exact hB.2.2) | grind [upI])
theorem vX0_laysRounds_10 (s : MS) (t : Nat → Int → Int) (hp : tOK (t 0) ∧ rng (s.2 13) (t 0 2)) (x1 : Int) (x2 : Int) (x3 : Int) (f14 : Int → Int) (f15 : Int → Int) (f16 : Int → Int) (f17 : Int → Int) (hI : (0 ≤ x1 ∧ x1 < t 0 2) ∧ ∃ t0, (RI (s.2 13) (t 0 2) t0 f15 f16 ∧ upT x1 t0) ∧ WI (s.2 13) (t 0 2) x1 x2 x3 t0 f14 f17) (o_1 : (0 ≤ x3 ∧ x3 < 10000)) (c_2 : ¬ (f14 x3) = (-1)) (c_3 : ¬ (f14 x3) = (-2)) : (0 ≤ x1 ∧ x1 < t 0 2) ∧ (-1 ≤ (i32 (x2 - 1)) ∧ (i32 (x2 - 1)) < t 0 2) ∧ BI (s.2 13) (t 0 2) x1 ((i32 (x2 - 1)) + 1) f14 f15 f16 f17 := by
  obtain ⟨ht, hg⟩ := hp
  have hN := tOK_N ht
  (try (have h2 := hI; obtain ⟨hx, t0, ⟨hr, hu⟩, hW⟩ := h2; clear hI; have hw := WI_t hg hx.1 hx.2 hW))
  (try (have h2 := hI; obtain ⟨hx, hS, t0, ⟨hr, hu⟩, hW⟩ := h2; clear hI; have hw := WI_t hg hx.1 hx.2 hW; have hs1 := seR_b hS; have hs2 := hS.2))
  (try have hs := WI_s hg hx.1 hx.2 hW c_2)
  (try have hB := BI_s hg hI.1.1 hI.1.2 hI.2.2 (i := x5) (by omega) (by omega))
  (try simp (disch := omega) only [i32_id] at *)
  (try (have e9 : x4 + -1 = x4 - 1 := by omega; simp only [e9] at *))
  (try (have e9 : x5 + -1 = x5 - 1 := by omega; simp only [e9] at *))
  (try unfold lex3)
  (try simp only [bI_0, bI_n, Classical.not_not] at *)
  (try simp (disch := omega) only [i32_id] at *)
  first | done | omega | ((repeat' (with_reducible apply And.intro)) <;> first | assumption | rfl | omega | (exact (RI_0 (g := s.2 13) (N := t 0 2) (m := f15) (r := f16) (fun y y0 y1 => hI.2 y y0 (by omega))).1) | (exact (RI_0 (g := s.2 13) (N := t 0 2) (m := f15) (r := f16) (fun y y0 y1 => hI.2 y y0 (by omega))).2) | (intro y y0 y1; by_cases e : y = x1; (focus (rw [e, upI_s])); (focus (rw [upI_n _ _ e]; exact hI.2 y y0 (by omega)))) | (exact RI_end hI.2.1 hI.2.2 (by omega)) | (exact ⟨f14, hI.2, WI_0 hN.1⟩) | (rw [show x2 - 1 + 1 = x2 by omega]; exact WI_met hg hx.1 hx.2 hr hu hW c_2 c_3) | (exact ⟨WI_on hg hx.1 hx.2 hr hW c_3, Int.le_refl _⟩) | (exact ⟨t0, ⟨hr, hu⟩, hW⟩) | (exact ⟨t0, ⟨hr, hu⟩, hs.2⟩) | (exact seR_s hS (by assumption)) | (intro i i0 i1; have h9 := hw.2.2 i (by omega) i1; omega) | (rw [show x4 - 1 - 1 + 1 = x4 - 1 by omega]; exact WI_laid hg hx.1 hx.2 hr hu hW (by rw [show x4 - 1 + 1 = x4 by omega]; exact hS) (by assumption) q_7) | (have h9 := WI_laid hg hx.1 hx.2 hr hu hW (j := x4 + -1) (by rw [show x4 + -1 + 1 = x4 by omega]; exact hS) c_2 q_7; first | exact h9 | (rw [show x4 + -1 - 1 + 1 = x4 + -1 by omega]; exact h9)) | (exact (BI_end hI.2.2 (by omega)).1) | (exact (BI_end hI.2.2 (by omega)).2) | (rw [show x5 - 1 + 1 = x5 by omega]; exact hB.2.2) | grind [upI])
theorem vX0_laysRounds_11 (s : MS) (t : Nat → Int → Int) (hp : tOK (t 0) ∧ rng (s.2 13) (t 0 2)) (x1 : Int) (x2 : Int) (x3 : Int) (f14 : Int → Int) (f15 : Int → Int) (f16 : Int → Int) (f17 : Int → Int) (hI : (0 ≤ x1 ∧ x1 < t 0 2) ∧ ∃ t0, (RI (s.2 13) (t 0 2) t0 f15 f16 ∧ upT x1 t0) ∧ WI (s.2 13) (t 0 2) x1 x2 x3 t0 f14 f17) (o_1 : (0 ≤ x3 ∧ x3 < 10000)) (c_2 : ¬ (f14 x3) = (-1)) (c_3 : ¬ (f14 x3) = (-2)) : lex3 1 ((t 0 2 - x1).toNat - 1) (((i32 (x2 - 1)) + 1).toNat + 2) 1 ((t 0 2 - x1).toNat - 1) (40000 + (t 0 2 - x2).toNat) := by
  obtain ⟨ht, hg⟩ := hp
  have hN := tOK_N ht
  (try (have h2 := hI; obtain ⟨hx, t0, ⟨hr, hu⟩, hW⟩ := h2; clear hI; have hw := WI_t hg hx.1 hx.2 hW))
  (try (have h2 := hI; obtain ⟨hx, hS, t0, ⟨hr, hu⟩, hW⟩ := h2; clear hI; have hw := WI_t hg hx.1 hx.2 hW; have hs1 := seR_b hS; have hs2 := hS.2))
  (try have hs := WI_s hg hx.1 hx.2 hW c_2)
  (try have hB := BI_s hg hI.1.1 hI.1.2 hI.2.2 (i := x5) (by omega) (by omega))
  (try simp (disch := omega) only [i32_id] at *)
  (try (have e9 : x4 + -1 = x4 - 1 := by omega; simp only [e9] at *))
  (try (have e9 : x5 + -1 = x5 - 1 := by omega; simp only [e9] at *))
  (try unfold lex3)
  (try simp only [bI_0, bI_n, Classical.not_not] at *)
  (try simp (disch := omega) only [i32_id] at *)
  first | done | omega | ((repeat' (with_reducible apply And.intro)) <;> first | assumption | rfl | omega | (exact (RI_0 (g := s.2 13) (N := t 0 2) (m := f15) (r := f16) (fun y y0 y1 => hI.2 y y0 (by omega))).1) | (exact (RI_0 (g := s.2 13) (N := t 0 2) (m := f15) (r := f16) (fun y y0 y1 => hI.2 y y0 (by omega))).2) | (intro y y0 y1; by_cases e : y = x1; (focus (rw [e, upI_s])); (focus (rw [upI_n _ _ e]; exact hI.2 y y0 (by omega)))) | (exact RI_end hI.2.1 hI.2.2 (by omega)) | (exact ⟨f14, hI.2, WI_0 hN.1⟩) | (rw [show x2 - 1 + 1 = x2 by omega]; exact WI_met hg hx.1 hx.2 hr hu hW c_2 c_3) | (exact ⟨WI_on hg hx.1 hx.2 hr hW c_3, Int.le_refl _⟩) | (exact ⟨t0, ⟨hr, hu⟩, hW⟩) | (exact ⟨t0, ⟨hr, hu⟩, hs.2⟩) | (exact seR_s hS (by assumption)) | (intro i i0 i1; have h9 := hw.2.2 i (by omega) i1; omega) | (rw [show x4 - 1 - 1 + 1 = x4 - 1 by omega]; exact WI_laid hg hx.1 hx.2 hr hu hW (by rw [show x4 - 1 + 1 = x4 by omega]; exact hS) (by assumption) q_7) | (have h9 := WI_laid hg hx.1 hx.2 hr hu hW (j := x4 + -1) (by rw [show x4 + -1 + 1 = x4 by omega]; exact hS) c_2 q_7; first | exact h9 | (rw [show x4 + -1 - 1 + 1 = x4 + -1 by omega]; exact h9)) | (exact (BI_end hI.2.2 (by omega)).1) | (exact (BI_end hI.2.2 (by omega)).2) | (rw [show x5 - 1 + 1 = x5 by omega]; exact hB.2.2) | grind [upI])
theorem vX0_laysRounds_12 (s : MS) (t : Nat → Int → Int) (hp : tOK (t 0) ∧ rng (s.2 13) (t 0 2)) (x1 : Int) (x2 : Int) (x3 : Int) (f14 : Int → Int) (f15 : Int → Int) (f16 : Int → Int) (f17 : Int → Int) (hI : (0 ≤ x1 ∧ x1 < t 0 2) ∧ ∃ t0, (RI (s.2 13) (t 0 2) t0 f15 f16 ∧ upT x1 t0) ∧ WI (s.2 13) (t 0 2) x1 x2 x3 t0 f14 f17) (o_1 : (0 ≤ x3 ∧ x3 < 10000)) (c_2 : ¬ (f14 x3) = (-1)) (c_3 : (f14 x3) = (-2)) : (0 ≤ x1 ∧ x1 < t 0 2) ∧ seR f17 x2 x3 x2 ∧ ∃ t0, (RI (s.2 13) (t 0 2) t0 f15 f16 ∧ upT x1 t0) ∧ WI (s.2 13) (t 0 2) x1 x2 x3 t0 f14 f17 := by
  obtain ⟨ht, hg⟩ := hp
  have hN := tOK_N ht
  (try (have h2 := hI; obtain ⟨hx, t0, ⟨hr, hu⟩, hW⟩ := h2; clear hI; have hw := WI_t hg hx.1 hx.2 hW))
  (try (have h2 := hI; obtain ⟨hx, hS, t0, ⟨hr, hu⟩, hW⟩ := h2; clear hI; have hw := WI_t hg hx.1 hx.2 hW; have hs1 := seR_b hS; have hs2 := hS.2))
  (try have hs := WI_s hg hx.1 hx.2 hW c_2)
  (try have hB := BI_s hg hI.1.1 hI.1.2 hI.2.2 (i := x5) (by omega) (by omega))
  (try simp (disch := omega) only [i32_id] at *)
  (try (have e9 : x4 + -1 = x4 - 1 := by omega; simp only [e9] at *))
  (try (have e9 : x5 + -1 = x5 - 1 := by omega; simp only [e9] at *))
  (try unfold lex3)
  (try simp only [bI_0, bI_n, Classical.not_not] at *)
  (try simp (disch := omega) only [i32_id] at *)
  first | done | omega | ((repeat' (with_reducible apply And.intro)) <;> first | assumption | rfl | omega | (exact (RI_0 (g := s.2 13) (N := t 0 2) (m := f15) (r := f16) (fun y y0 y1 => hI.2 y y0 (by omega))).1) | (exact (RI_0 (g := s.2 13) (N := t 0 2) (m := f15) (r := f16) (fun y y0 y1 => hI.2 y y0 (by omega))).2) | (intro y y0 y1; by_cases e : y = x1; (focus (rw [e, upI_s])); (focus (rw [upI_n _ _ e]; exact hI.2 y y0 (by omega)))) | (exact RI_end hI.2.1 hI.2.2 (by omega)) | (exact ⟨f14, hI.2, WI_0 hN.1⟩) | (rw [show x2 - 1 + 1 = x2 by omega]; exact WI_met hg hx.1 hx.2 hr hu hW c_2 c_3) | (exact ⟨WI_on hg hx.1 hx.2 hr hW c_3, Int.le_refl _⟩) | (exact ⟨t0, ⟨hr, hu⟩, hW⟩) | (exact ⟨t0, ⟨hr, hu⟩, hs.2⟩) | (exact seR_s hS (by assumption)) | (intro i i0 i1; have h9 := hw.2.2 i (by omega) i1; omega) | (rw [show x4 - 1 - 1 + 1 = x4 - 1 by omega]; exact WI_laid hg hx.1 hx.2 hr hu hW (by rw [show x4 - 1 + 1 = x4 by omega]; exact hS) (by assumption) q_7) | (have h9 := WI_laid hg hx.1 hx.2 hr hu hW (j := x4 + -1) (by rw [show x4 + -1 + 1 = x4 by omega]; exact hS) c_2 q_7; first | exact h9 | (rw [show x4 + -1 - 1 + 1 = x4 + -1 by omega]; exact h9)) | (exact (BI_end hI.2.2 (by omega)).1) | (exact (BI_end hI.2.2 (by omega)).2) | (rw [show x5 - 1 + 1 = x5 by omega]; exact hB.2.2) | grind [upI])
theorem vX0_laysRounds_13 (s : MS) (t : Nat → Int → Int) (hp : tOK (t 0) ∧ rng (s.2 13) (t 0 2)) (x1 : Int) (x2 : Int) (x3 : Int) (f14 : Int → Int) (f15 : Int → Int) (f16 : Int → Int) (f17 : Int → Int) (hI : (0 ≤ x1 ∧ x1 < t 0 2) ∧ ∃ t0, (RI (s.2 13) (t 0 2) t0 f15 f16 ∧ upT x1 t0) ∧ WI (s.2 13) (t 0 2) x1 x2 x3 t0 f14 f17) (o_1 : (0 ≤ x3 ∧ x3 < 10000)) (c_2 : ¬ (f14 x3) = (-1)) (c_3 : (f14 x3) = (-2)) : lex3 1 ((t 0 2 - x1).toNat - 1) (11000 + x2.toNat) 1 ((t 0 2 - x1).toNat - 1) (40000 + (t 0 2 - x2).toNat) := by
  obtain ⟨ht, hg⟩ := hp
  have hN := tOK_N ht
  (try (have h2 := hI; obtain ⟨hx, t0, ⟨hr, hu⟩, hW⟩ := h2; clear hI; have hw := WI_t hg hx.1 hx.2 hW))
  (try (have h2 := hI; obtain ⟨hx, hS, t0, ⟨hr, hu⟩, hW⟩ := h2; clear hI; have hw := WI_t hg hx.1 hx.2 hW; have hs1 := seR_b hS; have hs2 := hS.2))
  (try have hs := WI_s hg hx.1 hx.2 hW c_2)
  (try have hB := BI_s hg hI.1.1 hI.1.2 hI.2.2 (i := x5) (by omega) (by omega))
  (try simp (disch := omega) only [i32_id] at *)
  (try (have e9 : x4 + -1 = x4 - 1 := by omega; simp only [e9] at *))
  (try (have e9 : x5 + -1 = x5 - 1 := by omega; simp only [e9] at *))
  (try unfold lex3)
  (try simp only [bI_0, bI_n, Classical.not_not] at *)
  (try simp (disch := omega) only [i32_id] at *)
  first | done | omega | ((repeat' (with_reducible apply And.intro)) <;> first | assumption | rfl | omega | (exact (RI_0 (g := s.2 13) (N := t 0 2) (m := f15) (r := f16) (fun y y0 y1 => hI.2 y y0 (by omega))).1) | (exact (RI_0 (g := s.2 13) (N := t 0 2) (m := f15) (r := f16) (fun y y0 y1 => hI.2 y y0 (by omega))).2) | (intro y y0 y1; by_cases e : y = x1; (focus (rw [e, upI_s])); (focus (rw [upI_n _ _ e]; exact hI.2 y y0 (by omega)))) | (exact RI_end hI.2.1 hI.2.2 (by omega)) | (exact ⟨f14, hI.2, WI_0 hN.1⟩) | (rw [show x2 - 1 + 1 = x2 by omega]; exact WI_met hg hx.1 hx.2 hr hu hW c_2 c_3) | (exact ⟨WI_on hg hx.1 hx.2 hr hW c_3, Int.le_refl _⟩) | (exact ⟨t0, ⟨hr, hu⟩, hW⟩) | (exact ⟨t0, ⟨hr, hu⟩, hs.2⟩) | (exact seR_s hS (by assumption)) | (intro i i0 i1; have h9 := hw.2.2 i (by omega) i1; omega) | (rw [show x4 - 1 - 1 + 1 = x4 - 1 by omega]; exact WI_laid hg hx.1 hx.2 hr hu hW (by rw [show x4 - 1 + 1 = x4 by omega]; exact hS) (by assumption) q_7) | (have h9 := WI_laid hg hx.1 hx.2 hr hu hW (j := x4 + -1) (by rw [show x4 + -1 + 1 = x4 by omega]; exact hS) c_2 q_7; first | exact h9 | (rw [show x4 + -1 - 1 + 1 = x4 + -1 by omega]; exact h9)) | (exact (BI_end hI.2.2 (by omega)).1) | (exact (BI_end hI.2.2 (by omega)).2) | (rw [show x5 - 1 + 1 = x5 by omega]; exact hB.2.2) | grind [upI])
theorem vX0_laysRounds_14 (s : MS) (t : Nat → Int → Int) (hp : tOK (t 0) ∧ rng (s.2 13) (t 0 2)) (x1 : Int) (x2 : Int) (x3 : Int) (f14 : Int → Int) (f15 : Int → Int) (f16 : Int → Int) (f17 : Int → Int) (hI : (0 ≤ x1 ∧ x1 < t 0 2) ∧ ∃ t0, (RI (s.2 13) (t 0 2) t0 f15 f16 ∧ upT x1 t0) ∧ WI (s.2 13) (t 0 2) x1 x2 x3 t0 f14 f17) (o_1 : (0 ≤ x3 ∧ x3 < 10000)) (c_2 : (f14 x3) = (-1)) : (0 ≤ x2 ∧ x2 < 10000) := by
  obtain ⟨ht, hg⟩ := hp
  have hN := tOK_N ht
  (try (have h2 := hI; obtain ⟨hx, t0, ⟨hr, hu⟩, hW⟩ := h2; clear hI; have hw := WI_t hg hx.1 hx.2 hW))
  (try (have h2 := hI; obtain ⟨hx, hS, t0, ⟨hr, hu⟩, hW⟩ := h2; clear hI; have hw := WI_t hg hx.1 hx.2 hW; have hs1 := seR_b hS; have hs2 := hS.2))
  (try have hs := WI_s hg hx.1 hx.2 hW c_2)
  (try have hB := BI_s hg hI.1.1 hI.1.2 hI.2.2 (i := x5) (by omega) (by omega))
  (try simp (disch := omega) only [i32_id] at *)
  (try (have e9 : x4 + -1 = x4 - 1 := by omega; simp only [e9] at *))
  (try (have e9 : x5 + -1 = x5 - 1 := by omega; simp only [e9] at *))
  (try unfold lex3)
  (try simp only [bI_0, bI_n, Classical.not_not] at *)
  (try simp (disch := omega) only [i32_id] at *)
  first | done | omega | ((repeat' (with_reducible apply And.intro)) <;> first | assumption | rfl | omega | (exact (RI_0 (g := s.2 13) (N := t 0 2) (m := f15) (r := f16) (fun y y0 y1 => hI.2 y y0 (by omega))).1) | (exact (RI_0 (g := s.2 13) (N := t 0 2) (m := f15) (r := f16) (fun y y0 y1 => hI.2 y y0 (by omega))).2) | (intro y y0 y1; by_cases e : y = x1; (focus (rw [e, upI_s])); (focus (rw [upI_n _ _ e]; exact hI.2 y y0 (by omega)))) | (exact RI_end hI.2.1 hI.2.2 (by omega)) | (exact ⟨f14, hI.2, WI_0 hN.1⟩) | (rw [show x2 - 1 + 1 = x2 by omega]; exact WI_met hg hx.1 hx.2 hr hu hW c_2 c_3) | (exact ⟨WI_on hg hx.1 hx.2 hr hW c_3, Int.le_refl _⟩) | (exact ⟨t0, ⟨hr, hu⟩, hW⟩) | (exact ⟨t0, ⟨hr, hu⟩, hs.2⟩) | (exact seR_s hS (by assumption)) | (intro i i0 i1; have h9 := hw.2.2 i (by omega) i1; omega) | (rw [show x4 - 1 - 1 + 1 = x4 - 1 by omega]; exact WI_laid hg hx.1 hx.2 hr hu hW (by rw [show x4 - 1 + 1 = x4 by omega]; exact hS) (by assumption) q_7) | (have h9 := WI_laid hg hx.1 hx.2 hr hu hW (j := x4 + -1) (by rw [show x4 + -1 + 1 = x4 by omega]; exact hS) c_2 q_7; first | exact h9 | (rw [show x4 + -1 - 1 + 1 = x4 + -1 by omega]; exact h9)) | (exact (BI_end hI.2.2 (by omega)).1) | (exact (BI_end hI.2.2 (by omega)).2) | (rw [show x5 - 1 + 1 = x5 by omega]; exact hB.2.2) | grind [upI])
theorem vX0_laysRounds_15 (s : MS) (t : Nat → Int → Int) (hp : tOK (t 0) ∧ rng (s.2 13) (t 0 2)) (x1 : Int) (x2 : Int) (x3 : Int) (f14 : Int → Int) (f15 : Int → Int) (f16 : Int → Int) (f17 : Int → Int) (hI : (0 ≤ x1 ∧ x1 < t 0 2) ∧ ∃ t0, (RI (s.2 13) (t 0 2) t0 f15 f16 ∧ upT x1 t0) ∧ WI (s.2 13) (t 0 2) x1 x2 x3 t0 f14 f17) (o_1 : (0 ≤ x3 ∧ x3 < 10000)) (c_2 : (f14 x3) = (-1)) (o_4 : (0 ≤ x2 ∧ x2 < 10000)) : (0 ≤ x1 ∧ x1 < t 0 2) ∧ ∃ t0, (RI (s.2 13) (t 0 2) t0 f15 f16 ∧ upT x1 t0) ∧ WI (s.2 13) (t 0 2) x1 (i32 (x2 + 1)) (s.2 13 x3) t0 (upI f14 x3 (-2)) (upI f17 x2 x3) := by
  obtain ⟨ht, hg⟩ := hp
  have hN := tOK_N ht
  (try (have h2 := hI; obtain ⟨hx, t0, ⟨hr, hu⟩, hW⟩ := h2; clear hI; have hw := WI_t hg hx.1 hx.2 hW))
  (try (have h2 := hI; obtain ⟨hx, hS, t0, ⟨hr, hu⟩, hW⟩ := h2; clear hI; have hw := WI_t hg hx.1 hx.2 hW; have hs1 := seR_b hS; have hs2 := hS.2))
  (try have hs := WI_s hg hx.1 hx.2 hW c_2)
  (try have hB := BI_s hg hI.1.1 hI.1.2 hI.2.2 (i := x5) (by omega) (by omega))
  (try simp (disch := omega) only [i32_id] at *)
  (try (have e9 : x4 + -1 = x4 - 1 := by omega; simp only [e9] at *))
  (try (have e9 : x5 + -1 = x5 - 1 := by omega; simp only [e9] at *))
  (try unfold lex3)
  (try simp only [bI_0, bI_n, Classical.not_not] at *)
  (try simp (disch := omega) only [i32_id] at *)
  first | done | omega | ((repeat' (with_reducible apply And.intro)) <;> first | assumption | rfl | omega | (exact (RI_0 (g := s.2 13) (N := t 0 2) (m := f15) (r := f16) (fun y y0 y1 => hI.2 y y0 (by omega))).1) | (exact (RI_0 (g := s.2 13) (N := t 0 2) (m := f15) (r := f16) (fun y y0 y1 => hI.2 y y0 (by omega))).2) | (intro y y0 y1; by_cases e : y = x1; (focus (rw [e, upI_s])); (focus (rw [upI_n _ _ e]; exact hI.2 y y0 (by omega)))) | (exact RI_end hI.2.1 hI.2.2 (by omega)) | (exact ⟨f14, hI.2, WI_0 hN.1⟩) | (rw [show x2 - 1 + 1 = x2 by omega]; exact WI_met hg hx.1 hx.2 hr hu hW c_2 c_3) | (exact ⟨WI_on hg hx.1 hx.2 hr hW c_3, Int.le_refl _⟩) | (exact ⟨t0, ⟨hr, hu⟩, hW⟩) | (exact ⟨t0, ⟨hr, hu⟩, hs.2⟩) | (exact seR_s hS (by assumption)) | (intro i i0 i1; have h9 := hw.2.2 i (by omega) i1; omega) | (rw [show x4 - 1 - 1 + 1 = x4 - 1 by omega]; exact WI_laid hg hx.1 hx.2 hr hu hW (by rw [show x4 - 1 + 1 = x4 by omega]; exact hS) (by assumption) q_7) | (have h9 := WI_laid hg hx.1 hx.2 hr hu hW (j := x4 + -1) (by rw [show x4 + -1 + 1 = x4 by omega]; exact hS) c_2 q_7; first | exact h9 | (rw [show x4 + -1 - 1 + 1 = x4 + -1 by omega]; exact h9)) | (exact (BI_end hI.2.2 (by omega)).1) | (exact (BI_end hI.2.2 (by omega)).2) | (rw [show x5 - 1 + 1 = x5 by omega]; exact hB.2.2) | grind [upI])
theorem vX0_laysRounds_16 (s : MS) (t : Nat → Int → Int) (hp : tOK (t 0) ∧ rng (s.2 13) (t 0 2)) (x1 : Int) (x2 : Int) (x3 : Int) (f14 : Int → Int) (f15 : Int → Int) (f16 : Int → Int) (f17 : Int → Int) (hI : (0 ≤ x1 ∧ x1 < t 0 2) ∧ ∃ t0, (RI (s.2 13) (t 0 2) t0 f15 f16 ∧ upT x1 t0) ∧ WI (s.2 13) (t 0 2) x1 x2 x3 t0 f14 f17) (o_1 : (0 ≤ x3 ∧ x3 < 10000)) (c_2 : (f14 x3) = (-1)) (o_4 : (0 ≤ x2 ∧ x2 < 10000)) : lex3 1 ((t 0 2 - x1).toNat - 1) (40000 + (t 0 2 - (i32 (x2 + 1))).toNat) 1 ((t 0 2 - x1).toNat - 1) (40000 + (t 0 2 - x2).toNat) := by
  obtain ⟨ht, hg⟩ := hp
  have hN := tOK_N ht
  (try (have h2 := hI; obtain ⟨hx, t0, ⟨hr, hu⟩, hW⟩ := h2; clear hI; have hw := WI_t hg hx.1 hx.2 hW))
  (try (have h2 := hI; obtain ⟨hx, hS, t0, ⟨hr, hu⟩, hW⟩ := h2; clear hI; have hw := WI_t hg hx.1 hx.2 hW; have hs1 := seR_b hS; have hs2 := hS.2))
  (try have hs := WI_s hg hx.1 hx.2 hW c_2)
  (try have hB := BI_s hg hI.1.1 hI.1.2 hI.2.2 (i := x5) (by omega) (by omega))
  (try simp (disch := omega) only [i32_id] at *)
  (try (have e9 : x4 + -1 = x4 - 1 := by omega; simp only [e9] at *))
  (try (have e9 : x5 + -1 = x5 - 1 := by omega; simp only [e9] at *))
  (try unfold lex3)
  (try simp only [bI_0, bI_n, Classical.not_not] at *)
  (try simp (disch := omega) only [i32_id] at *)
  first | done | omega | ((repeat' (with_reducible apply And.intro)) <;> first | assumption | rfl | omega | (exact (RI_0 (g := s.2 13) (N := t 0 2) (m := f15) (r := f16) (fun y y0 y1 => hI.2 y y0 (by omega))).1) | (exact (RI_0 (g := s.2 13) (N := t 0 2) (m := f15) (r := f16) (fun y y0 y1 => hI.2 y y0 (by omega))).2) | (intro y y0 y1; by_cases e : y = x1; (focus (rw [e, upI_s])); (focus (rw [upI_n _ _ e]; exact hI.2 y y0 (by omega)))) | (exact RI_end hI.2.1 hI.2.2 (by omega)) | (exact ⟨f14, hI.2, WI_0 hN.1⟩) | (rw [show x2 - 1 + 1 = x2 by omega]; exact WI_met hg hx.1 hx.2 hr hu hW c_2 c_3) | (exact ⟨WI_on hg hx.1 hx.2 hr hW c_3, Int.le_refl _⟩) | (exact ⟨t0, ⟨hr, hu⟩, hW⟩) | (exact ⟨t0, ⟨hr, hu⟩, hs.2⟩) | (exact seR_s hS (by assumption)) | (intro i i0 i1; have h9 := hw.2.2 i (by omega) i1; omega) | (rw [show x4 - 1 - 1 + 1 = x4 - 1 by omega]; exact WI_laid hg hx.1 hx.2 hr hu hW (by rw [show x4 - 1 + 1 = x4 by omega]; exact hS) (by assumption) q_7) | (have h9 := WI_laid hg hx.1 hx.2 hr hu hW (j := x4 + -1) (by rw [show x4 + -1 + 1 = x4 by omega]; exact hS) c_2 q_7; first | exact h9 | (rw [show x4 + -1 - 1 + 1 = x4 + -1 by omega]; exact h9)) | (exact (BI_end hI.2.2 (by omega)).1) | (exact (BI_end hI.2.2 (by omega)).2) | (rw [show x5 - 1 + 1 = x5 by omega]; exact hB.2.2) | grind [upI])
theorem vX0_laysRounds_17 (s : MS) (t : Nat → Int → Int) (hp : tOK (t 0) ∧ rng (s.2 13) (t 0 2)) (x1 : Int) (x2 : Int) (x3 : Int) (x4 : Int) (f14 : Int → Int) (f15 : Int → Int) (f16 : Int → Int) (f17 : Int → Int) (hI : (0 ≤ x1 ∧ x1 < t 0 2) ∧ seR f17 x2 x3 x4 ∧ ∃ t0, (RI (s.2 13) (t 0 2) t0 f15 f16 ∧ upT x1 t0) ∧ WI (s.2 13) (t 0 2) x1 x2 x3 t0 f14 f17) : (0 ≤ (i32 (x4 + (-1))) ∧ (i32 (x4 + (-1))) < 10000) := by
  obtain ⟨ht, hg⟩ := hp
  have hN := tOK_N ht
  (try (have h2 := hI; obtain ⟨hx, t0, ⟨hr, hu⟩, hW⟩ := h2; clear hI; have hw := WI_t hg hx.1 hx.2 hW))
  (try (have h2 := hI; obtain ⟨hx, hS, t0, ⟨hr, hu⟩, hW⟩ := h2; clear hI; have hw := WI_t hg hx.1 hx.2 hW; have hs1 := seR_b hS; have hs2 := hS.2))
  (try have hs := WI_s hg hx.1 hx.2 hW c_2)
  (try have hB := BI_s hg hI.1.1 hI.1.2 hI.2.2 (i := x5) (by omega) (by omega))
  (try simp (disch := omega) only [i32_id] at *)
  (try (have e9 : x4 + -1 = x4 - 1 := by omega; simp only [e9] at *))
  (try (have e9 : x5 + -1 = x5 - 1 := by omega; simp only [e9] at *))
  (try unfold lex3)
  (try simp only [bI_0, bI_n, Classical.not_not] at *)
  (try simp (disch := omega) only [i32_id] at *)
  first | done | omega | ((repeat' (with_reducible apply And.intro)) <;> first | assumption | rfl | omega | (exact (RI_0 (g := s.2 13) (N := t 0 2) (m := f15) (r := f16) (fun y y0 y1 => hI.2 y y0 (by omega))).1) | (exact (RI_0 (g := s.2 13) (N := t 0 2) (m := f15) (r := f16) (fun y y0 y1 => hI.2 y y0 (by omega))).2) | (intro y y0 y1; by_cases e : y = x1; (focus (rw [e, upI_s])); (focus (rw [upI_n _ _ e]; exact hI.2 y y0 (by omega)))) | (exact RI_end hI.2.1 hI.2.2 (by omega)) | (exact ⟨f14, hI.2, WI_0 hN.1⟩) | (rw [show x2 - 1 + 1 = x2 by omega]; exact WI_met hg hx.1 hx.2 hr hu hW c_2 c_3) | (exact ⟨WI_on hg hx.1 hx.2 hr hW c_3, Int.le_refl _⟩) | (exact ⟨t0, ⟨hr, hu⟩, hW⟩) | (exact ⟨t0, ⟨hr, hu⟩, hs.2⟩) | (exact seR_s hS (by assumption)) | (intro i i0 i1; have h9 := hw.2.2 i (by omega) i1; omega) | (rw [show x4 - 1 - 1 + 1 = x4 - 1 by omega]; exact WI_laid hg hx.1 hx.2 hr hu hW (by rw [show x4 - 1 + 1 = x4 by omega]; exact hS) (by assumption) q_7) | (have h9 := WI_laid hg hx.1 hx.2 hr hu hW (j := x4 + -1) (by rw [show x4 + -1 + 1 = x4 by omega]; exact hS) c_2 q_7; first | exact h9 | (rw [show x4 + -1 - 1 + 1 = x4 + -1 by omega]; exact h9)) | (exact (BI_end hI.2.2 (by omega)).1) | (exact (BI_end hI.2.2 (by omega)).2) | (rw [show x5 - 1 + 1 = x5 by omega]; exact hB.2.2) | grind [upI])
theorem vX0_laysRounds_18 (s : MS) (t : Nat → Int → Int) (hp : tOK (t 0) ∧ rng (s.2 13) (t 0 2)) (x1 : Int) (x2 : Int) (x3 : Int) (x4 : Int) (f14 : Int → Int) (f15 : Int → Int) (f16 : Int → Int) (f17 : Int → Int) (hI : (0 ≤ x1 ∧ x1 < t 0 2) ∧ seR f17 x2 x3 x4 ∧ ∃ t0, (RI (s.2 13) (t 0 2) t0 f15 f16 ∧ upT x1 t0) ∧ WI (s.2 13) (t 0 2) x1 x2 x3 t0 f14 f17) (o_1 : (0 ≤ (i32 (x4 + (-1))) ∧ (i32 (x4 + (-1))) < 10000)) (c_2 : ¬ (f17 (i32 (x4 + (-1)))) = x3) : (0 ≤ x1 ∧ x1 < t 0 2) ∧ seR f17 x2 x3 (i32 (x4 + (-1))) ∧ ∃ t0, (RI (s.2 13) (t 0 2) t0 f15 f16 ∧ upT x1 t0) ∧ WI (s.2 13) (t 0 2) x1 x2 x3 t0 f14 f17 := by
  obtain ⟨ht, hg⟩ := hp
  have hN := tOK_N ht
  (try (have h2 := hI; obtain ⟨hx, t0, ⟨hr, hu⟩, hW⟩ := h2; clear hI; have hw := WI_t hg hx.1 hx.2 hW))
  (try (have h2 := hI; obtain ⟨hx, hS, t0, ⟨hr, hu⟩, hW⟩ := h2; clear hI; have hw := WI_t hg hx.1 hx.2 hW; have hs1 := seR_b hS; have hs2 := hS.2))
  (try have hs := WI_s hg hx.1 hx.2 hW c_2)
  (try have hB := BI_s hg hI.1.1 hI.1.2 hI.2.2 (i := x5) (by omega) (by omega))
  (try simp (disch := omega) only [i32_id] at *)
  (try (have e9 : x4 + -1 = x4 - 1 := by omega; simp only [e9] at *))
  (try (have e9 : x5 + -1 = x5 - 1 := by omega; simp only [e9] at *))
  (try unfold lex3)
  (try simp only [bI_0, bI_n, Classical.not_not] at *)
  (try simp (disch := omega) only [i32_id] at *)
  first | done | omega | ((repeat' (with_reducible apply And.intro)) <;> first | assumption | rfl | omega | (exact (RI_0 (g := s.2 13) (N := t 0 2) (m := f15) (r := f16) (fun y y0 y1 => hI.2 y y0 (by omega))).1) | (exact (RI_0 (g := s.2 13) (N := t 0 2) (m := f15) (r := f16) (fun y y0 y1 => hI.2 y y0 (by omega))).2) | (intro y y0 y1; by_cases e : y = x1; (focus (rw [e, upI_s])); (focus (rw [upI_n _ _ e]; exact hI.2 y y0 (by omega)))) | (exact RI_end hI.2.1 hI.2.2 (by omega)) | (exact ⟨f14, hI.2, WI_0 hN.1⟩) | (rw [show x2 - 1 + 1 = x2 by omega]; exact WI_met hg hx.1 hx.2 hr hu hW c_2 c_3) | (exact ⟨WI_on hg hx.1 hx.2 hr hW c_3, Int.le_refl _⟩) | (exact ⟨t0, ⟨hr, hu⟩, hW⟩) | (exact ⟨t0, ⟨hr, hu⟩, hs.2⟩) | (exact seR_s hS (by assumption)) | (intro i i0 i1; have h9 := hw.2.2 i (by omega) i1; omega) | (rw [show x4 - 1 - 1 + 1 = x4 - 1 by omega]; exact WI_laid hg hx.1 hx.2 hr hu hW (by rw [show x4 - 1 + 1 = x4 by omega]; exact hS) (by assumption) q_7) | (have h9 := WI_laid hg hx.1 hx.2 hr hu hW (j := x4 + -1) (by rw [show x4 + -1 + 1 = x4 by omega]; exact hS) c_2 q_7; first | exact h9 | (rw [show x4 + -1 - 1 + 1 = x4 + -1 by omega]; exact h9)) | (exact (BI_end hI.2.2 (by omega)).1) | (exact (BI_end hI.2.2 (by omega)).2) | (rw [show x5 - 1 + 1 = x5 by omega]; exact hB.2.2) | grind [upI])
theorem vX0_laysRounds_19 (s : MS) (t : Nat → Int → Int) (hp : tOK (t 0) ∧ rng (s.2 13) (t 0 2)) (x1 : Int) (x2 : Int) (x3 : Int) (x4 : Int) (f14 : Int → Int) (f15 : Int → Int) (f16 : Int → Int) (f17 : Int → Int) (hI : (0 ≤ x1 ∧ x1 < t 0 2) ∧ seR f17 x2 x3 x4 ∧ ∃ t0, (RI (s.2 13) (t 0 2) t0 f15 f16 ∧ upT x1 t0) ∧ WI (s.2 13) (t 0 2) x1 x2 x3 t0 f14 f17) (o_1 : (0 ≤ (i32 (x4 + (-1))) ∧ (i32 (x4 + (-1))) < 10000)) (c_2 : ¬ (f17 (i32 (x4 + (-1)))) = x3) : lex3 1 ((t 0 2 - x1).toNat - 1) (11000 + (i32 (x4 + (-1))).toNat) 1 ((t 0 2 - x1).toNat - 1) (11000 + x4.toNat) := by
  obtain ⟨ht, hg⟩ := hp
  have hN := tOK_N ht
  (try (have h2 := hI; obtain ⟨hx, t0, ⟨hr, hu⟩, hW⟩ := h2; clear hI; have hw := WI_t hg hx.1 hx.2 hW))
  (try (have h2 := hI; obtain ⟨hx, hS, t0, ⟨hr, hu⟩, hW⟩ := h2; clear hI; have hw := WI_t hg hx.1 hx.2 hW; have hs1 := seR_b hS; have hs2 := hS.2))
  (try have hs := WI_s hg hx.1 hx.2 hW c_2)
  (try have hB := BI_s hg hI.1.1 hI.1.2 hI.2.2 (i := x5) (by omega) (by omega))
  (try simp (disch := omega) only [i32_id] at *)
  (try (have e9 : x4 + -1 = x4 - 1 := by omega; simp only [e9] at *))
  (try (have e9 : x5 + -1 = x5 - 1 := by omega; simp only [e9] at *))
  (try unfold lex3)
  (try simp only [bI_0, bI_n, Classical.not_not] at *)
  (try simp (disch := omega) only [i32_id] at *)
  first | done | omega | ((repeat' (with_reducible apply And.intro)) <;> first | assumption | rfl | omega | (exact (RI_0 (g := s.2 13) (N := t 0 2) (m := f15) (r := f16) (fun y y0 y1 => hI.2 y y0 (by omega))).1) | (exact (RI_0 (g := s.2 13) (N := t 0 2) (m := f15) (r := f16) (fun y y0 y1 => hI.2 y y0 (by omega))).2) | (intro y y0 y1; by_cases e : y = x1; (focus (rw [e, upI_s])); (focus (rw [upI_n _ _ e]; exact hI.2 y y0 (by omega)))) | (exact RI_end hI.2.1 hI.2.2 (by omega)) | (exact ⟨f14, hI.2, WI_0 hN.1⟩) | (rw [show x2 - 1 + 1 = x2 by omega]; exact WI_met hg hx.1 hx.2 hr hu hW c_2 c_3) | (exact ⟨WI_on hg hx.1 hx.2 hr hW c_3, Int.le_refl _⟩) | (exact ⟨t0, ⟨hr, hu⟩, hW⟩) | (exact ⟨t0, ⟨hr, hu⟩, hs.2⟩) | (exact seR_s hS (by assumption)) | (intro i i0 i1; have h9 := hw.2.2 i (by omega) i1; omega) | (rw [show x4 - 1 - 1 + 1 = x4 - 1 by omega]; exact WI_laid hg hx.1 hx.2 hr hu hW (by rw [show x4 - 1 + 1 = x4 by omega]; exact hS) (by assumption) q_7) | (have h9 := WI_laid hg hx.1 hx.2 hr hu hW (j := x4 + -1) (by rw [show x4 + -1 + 1 = x4 by omega]; exact hS) c_2 q_7; first | exact h9 | (rw [show x4 + -1 - 1 + 1 = x4 + -1 by omega]; exact h9)) | (exact (BI_end hI.2.2 (by omega)).1) | (exact (BI_end hI.2.2 (by omega)).2) | (rw [show x5 - 1 + 1 = x5 by omega]; exact hB.2.2) | grind [upI])
theorem vX0_laysRounds_20 (s : MS) (t : Nat → Int → Int) (hp : tOK (t 0) ∧ rng (s.2 13) (t 0 2)) (x1 : Int) (x2 : Int) (x3 : Int) (x4 : Int) (f14 : Int → Int) (f15 : Int → Int) (f16 : Int → Int) (f17 : Int → Int) (hI : (0 ≤ x1 ∧ x1 < t 0 2) ∧ seR f17 x2 x3 x4 ∧ ∃ t0, (RI (s.2 13) (t 0 2) t0 f15 f16 ∧ upT x1 t0) ∧ WI (s.2 13) (t 0 2) x1 x2 x3 t0 f14 f17) (o_1 : (0 ≤ (i32 (x4 + (-1))) ∧ (i32 (x4 + (-1))) < 10000)) (c_2 : (f17 (i32 (x4 + (-1)))) = x3) : ((0 ≤ (i32 (x4 + (-1))) ∧ (i32 (x4 + (-1))) < x2 ∧ x2 ≤ 10000) ∧ ∀ i : Int, (i32 (x4 + (-1))) ≤ i → i < x2 → 0 ≤ f17 i ∧ f17 i < 10000) := by
  obtain ⟨ht, hg⟩ := hp
  have hN := tOK_N ht
  (try (have h2 := hI; obtain ⟨hx, t0, ⟨hr, hu⟩, hW⟩ := h2; clear hI; have hw := WI_t hg hx.1 hx.2 hW))
  (try (have h2 := hI; obtain ⟨hx, hS, t0, ⟨hr, hu⟩, hW⟩ := h2; clear hI; have hw := WI_t hg hx.1 hx.2 hW; have hs1 := seR_b hS; have hs2 := hS.2))
  (try have hs := WI_s hg hx.1 hx.2 hW c_2)
  (try have hB := BI_s hg hI.1.1 hI.1.2 hI.2.2 (i := x5) (by omega) (by omega))
  (try simp (disch := omega) only [i32_id] at *)
  (try (have e9 : x4 + -1 = x4 - 1 := by omega; simp only [e9] at *))
  (try (have e9 : x5 + -1 = x5 - 1 := by omega; simp only [e9] at *))
  (try unfold lex3)
  (try simp only [bI_0, bI_n, Classical.not_not] at *)
  (try simp (disch := omega) only [i32_id] at *)
  first | done | omega | ((repeat' (with_reducible apply And.intro)) <;> first | assumption | rfl | omega | (exact (RI_0 (g := s.2 13) (N := t 0 2) (m := f15) (r := f16) (fun y y0 y1 => hI.2 y y0 (by omega))).1) | (exact (RI_0 (g := s.2 13) (N := t 0 2) (m := f15) (r := f16) (fun y y0 y1 => hI.2 y y0 (by omega))).2) | (intro y y0 y1; by_cases e : y = x1; (focus (rw [e, upI_s])); (focus (rw [upI_n _ _ e]; exact hI.2 y y0 (by omega)))) | (exact RI_end hI.2.1 hI.2.2 (by omega)) | (exact ⟨f14, hI.2, WI_0 hN.1⟩) | (rw [show x2 - 1 + 1 = x2 by omega]; exact WI_met hg hx.1 hx.2 hr hu hW c_2 c_3) | (exact ⟨WI_on hg hx.1 hx.2 hr hW c_3, Int.le_refl _⟩) | (exact ⟨t0, ⟨hr, hu⟩, hW⟩) | (exact ⟨t0, ⟨hr, hu⟩, hs.2⟩) | (exact seR_s hS (by assumption)) | (intro i i0 i1; have h9 := hw.2.2 i (by omega) i1; omega) | (rw [show x4 - 1 - 1 + 1 = x4 - 1 by omega]; exact WI_laid hg hx.1 hx.2 hr hu hW (by rw [show x4 - 1 + 1 = x4 by omega]; exact hS) (by assumption) q_7) | (have h9 := WI_laid hg hx.1 hx.2 hr hu hW (j := x4 + -1) (by rw [show x4 + -1 + 1 = x4 by omega]; exact hS) c_2 q_7; first | exact h9 | (rw [show x4 + -1 - 1 + 1 = x4 + -1 by omega]; exact h9)) | (exact (BI_end hI.2.2 (by omega)).1) | (exact (BI_end hI.2.2 (by omega)).2) | (rw [show x5 - 1 + 1 = x5 by omega]; exact hB.2.2) | grind [upI])
theorem vX0_laysRounds_21 (s : MS) (t : Nat → Int → Int) (hp : tOK (t 0) ∧ rng (s.2 13) (t 0 2)) (x1 : Int) (x2 : Int) (x3 : Int) (x4 : Int) (f14 : Int → Int) (f15 : Int → Int) (f16 : Int → Int) (f17 : Int → Int) (hI : (0 ≤ x1 ∧ x1 < t 0 2) ∧ seR f17 x2 x3 x4 ∧ ∃ t0, (RI (s.2 13) (t 0 2) t0 f15 f16 ∧ upT x1 t0) ∧ WI (s.2 13) (t 0 2) x1 x2 x3 t0 f14 f17) (o_1 : (0 ≤ (i32 (x4 + (-1))) ∧ (i32 (x4 + (-1))) < 10000)) (c_2 : (f17 (i32 (x4 + (-1)))) = x3) (o_3 : ((0 ≤ (i32 (x4 + (-1))) ∧ (i32 (x4 + (-1))) < x2 ∧ x2 ≤ 10000) ∧ ∀ i : Int, (i32 (x4 + (-1))) ≤ i → i < x2 → 0 ≤ f17 i ∧ f17 i < 10000)) (f_4 : Int → Int) (f_5 : Int → Int) (f_6 : Int → Int) (q_7 : (lrQ f17 (i32 (x4 + (-1))) x2 f14 f15 f16 f_4 f_5 f_6)) : (0 ≤ x1 ∧ x1 < t 0 2) ∧ (-1 ≤ (i32 ((i32 (x4 + (-1))) - 1)) ∧ (i32 ((i32 (x4 + (-1))) - 1)) < t 0 2) ∧ BI (s.2 13) (t 0 2) x1 ((i32 ((i32 (x4 + (-1))) - 1)) + 1) f_4 f_5 f_6 f17 := by
  obtain ⟨ht, hg⟩ := hp
  have hN := tOK_N ht
  (try (have h2 := hI; obtain ⟨hx, t0, ⟨hr, hu⟩, hW⟩ := h2; clear hI; have hw := WI_t hg hx.1 hx.2 hW))
  (try (have h2 := hI; obtain ⟨hx, hS, t0, ⟨hr, hu⟩, hW⟩ := h2; clear hI; have hw := WI_t hg hx.1 hx.2 hW; have hs1 := seR_b hS; have hs2 := hS.2))
  (try have hs := WI_s hg hx.1 hx.2 hW c_2)
  (try have hB := BI_s hg hI.1.1 hI.1.2 hI.2.2 (i := x5) (by omega) (by omega))
  (try simp (disch := omega) only [i32_id] at *)
  (try (have e9 : x4 + -1 = x4 - 1 := by omega; simp only [e9] at *))
  (try (have e9 : x5 + -1 = x5 - 1 := by omega; simp only [e9] at *))
  (try unfold lex3)
  (try simp only [bI_0, bI_n, Classical.not_not] at *)
  (try simp (disch := omega) only [i32_id] at *)
  first | done | omega | ((repeat' (with_reducible apply And.intro)) <;> first | assumption | rfl | omega | (exact (RI_0 (g := s.2 13) (N := t 0 2) (m := f15) (r := f16) (fun y y0 y1 => hI.2 y y0 (by omega))).1) | (exact (RI_0 (g := s.2 13) (N := t 0 2) (m := f15) (r := f16) (fun y y0 y1 => hI.2 y y0 (by omega))).2) | (intro y y0 y1; by_cases e : y = x1; (focus (rw [e, upI_s])); (focus (rw [upI_n _ _ e]; exact hI.2 y y0 (by omega)))) | (exact RI_end hI.2.1 hI.2.2 (by omega)) | (exact ⟨f14, hI.2, WI_0 hN.1⟩) | (rw [show x2 - 1 + 1 = x2 by omega]; exact WI_met hg hx.1 hx.2 hr hu hW c_2 c_3) | (exact ⟨WI_on hg hx.1 hx.2 hr hW c_3, Int.le_refl _⟩) | (exact ⟨t0, ⟨hr, hu⟩, hW⟩) | (exact ⟨t0, ⟨hr, hu⟩, hs.2⟩) | (exact seR_s hS (by assumption)) | (intro i i0 i1; have h9 := hw.2.2 i (by omega) i1; omega) | (rw [show x4 - 1 - 1 + 1 = x4 - 1 by omega]; exact WI_laid hg hx.1 hx.2 hr hu hW (by rw [show x4 - 1 + 1 = x4 by omega]; exact hS) (by assumption) q_7) | (have h9 := WI_laid hg hx.1 hx.2 hr hu hW (j := x4 + -1) (by rw [show x4 + -1 + 1 = x4 by omega]; exact hS) c_2 q_7; first | exact h9 | (rw [show x4 + -1 - 1 + 1 = x4 + -1 by omega]; exact h9)) | (exact (BI_end hI.2.2 (by omega)).1) | (exact (BI_end hI.2.2 (by omega)).2) | (rw [show x5 - 1 + 1 = x5 by omega]; exact hB.2.2) | grind [upI])
theorem vX0_laysRounds_22 (s : MS) (t : Nat → Int → Int) (hp : tOK (t 0) ∧ rng (s.2 13) (t 0 2)) (x1 : Int) (x2 : Int) (x3 : Int) (x4 : Int) (f14 : Int → Int) (f15 : Int → Int) (f16 : Int → Int) (f17 : Int → Int) (hI : (0 ≤ x1 ∧ x1 < t 0 2) ∧ seR f17 x2 x3 x4 ∧ ∃ t0, (RI (s.2 13) (t 0 2) t0 f15 f16 ∧ upT x1 t0) ∧ WI (s.2 13) (t 0 2) x1 x2 x3 t0 f14 f17) (o_1 : (0 ≤ (i32 (x4 + (-1))) ∧ (i32 (x4 + (-1))) < 10000)) (c_2 : (f17 (i32 (x4 + (-1)))) = x3) (o_3 : ((0 ≤ (i32 (x4 + (-1))) ∧ (i32 (x4 + (-1))) < x2 ∧ x2 ≤ 10000) ∧ ∀ i : Int, (i32 (x4 + (-1))) ≤ i → i < x2 → 0 ≤ f17 i ∧ f17 i < 10000)) (f_4 : Int → Int) (f_5 : Int → Int) (f_6 : Int → Int) (q_7 : (lrQ f17 (i32 (x4 + (-1))) x2 f14 f15 f16 f_4 f_5 f_6)) : lex3 1 ((t 0 2 - x1).toNat - 1) (((i32 ((i32 (x4 + (-1))) - 1)) + 1).toNat + 2) 1 ((t 0 2 - x1).toNat - 1) (11000 + x4.toNat) := by
  obtain ⟨ht, hg⟩ := hp
  have hN := tOK_N ht
  (try (have h2 := hI; obtain ⟨hx, t0, ⟨hr, hu⟩, hW⟩ := h2; clear hI; have hw := WI_t hg hx.1 hx.2 hW))
  (try (have h2 := hI; obtain ⟨hx, hS, t0, ⟨hr, hu⟩, hW⟩ := h2; clear hI; have hw := WI_t hg hx.1 hx.2 hW; have hs1 := seR_b hS; have hs2 := hS.2))
  (try have hs := WI_s hg hx.1 hx.2 hW c_2)
  (try have hB := BI_s hg hI.1.1 hI.1.2 hI.2.2 (i := x5) (by omega) (by omega))
  (try simp (disch := omega) only [i32_id] at *)
  (try (have e9 : x4 + -1 = x4 - 1 := by omega; simp only [e9] at *))
  (try (have e9 : x5 + -1 = x5 - 1 := by omega; simp only [e9] at *))
  (try unfold lex3)
  (try simp only [bI_0, bI_n, Classical.not_not] at *)
  (try simp (disch := omega) only [i32_id] at *)
  first | done | omega | ((repeat' (with_reducible apply And.intro)) <;> first | assumption | rfl | omega | (exact (RI_0 (g := s.2 13) (N := t 0 2) (m := f15) (r := f16) (fun y y0 y1 => hI.2 y y0 (by omega))).1) | (exact (RI_0 (g := s.2 13) (N := t 0 2) (m := f15) (r := f16) (fun y y0 y1 => hI.2 y y0 (by omega))).2) | (intro y y0 y1; by_cases e : y = x1; (focus (rw [e, upI_s])); (focus (rw [upI_n _ _ e]; exact hI.2 y y0 (by omega)))) | (exact RI_end hI.2.1 hI.2.2 (by omega)) | (exact ⟨f14, hI.2, WI_0 hN.1⟩) | (rw [show x2 - 1 + 1 = x2 by omega]; exact WI_met hg hx.1 hx.2 hr hu hW c_2 c_3) | (exact ⟨WI_on hg hx.1 hx.2 hr hW c_3, Int.le_refl _⟩) | (exact ⟨t0, ⟨hr, hu⟩, hW⟩) | (exact ⟨t0, ⟨hr, hu⟩, hs.2⟩) | (exact seR_s hS (by assumption)) | (intro i i0 i1; have h9 := hw.2.2 i (by omega) i1; omega) | (rw [show x4 - 1 - 1 + 1 = x4 - 1 by omega]; exact WI_laid hg hx.1 hx.2 hr hu hW (by rw [show x4 - 1 + 1 = x4 by omega]; exact hS) (by assumption) q_7) | (have h9 := WI_laid hg hx.1 hx.2 hr hu hW (j := x4 + -1) (by rw [show x4 + -1 + 1 = x4 by omega]; exact hS) c_2 q_7; first | exact h9 | (rw [show x4 + -1 - 1 + 1 = x4 + -1 by omega]; exact h9)) | (exact (BI_end hI.2.2 (by omega)).1) | (exact (BI_end hI.2.2 (by omega)).2) | (rw [show x5 - 1 + 1 = x5 by omega]; exact hB.2.2) | grind [upI])
theorem vX0_laysRounds_23 (s : MS) (t : Nat → Int → Int) (hp : tOK (t 0) ∧ rng (s.2 13) (t 0 2)) (x1 : Int) (x5 : Int) (f14 : Int → Int) (f15 : Int → Int) (f16 : Int → Int) (f17 : Int → Int) (hI : (0 ≤ x1 ∧ x1 < t 0 2) ∧ (-1 ≤ x5 ∧ x5 < t 0 2) ∧ BI (s.2 13) (t 0 2) x1 (x5 + 1) f14 f15 f16 f17) (c_1 : x5 < 0) : (0 ≤ (i32 (x1 + 1)) ∧ (i32 (x1 + 1)) ≤ t 0 2) ∧ RI (s.2 13) (t 0 2) f14 f15 f16 ∧ upT (i32 (x1 + 1)) f14 := by
  obtain ⟨ht, hg⟩ := hp
  have hN := tOK_N ht
  (try (have h2 := hI; obtain ⟨hx, t0, ⟨hr, hu⟩, hW⟩ := h2; clear hI; have hw := WI_t hg hx.1 hx.2 hW))
  (try (have h2 := hI; obtain ⟨hx, hS, t0, ⟨hr, hu⟩, hW⟩ := h2; clear hI; have hw := WI_t hg hx.1 hx.2 hW; have hs1 := seR_b hS; have hs2 := hS.2))
  (try have hs := WI_s hg hx.1 hx.2 hW c_2)
  (try have hB := BI_s hg hI.1.1 hI.1.2 hI.2.2 (i := x5) (by omega) (by omega))
  (try simp (disch := omega) only [i32_id] at *)
  (try (have e9 : x4 + -1 = x4 - 1 := by omega; simp only [e9] at *))
  (try (have e9 : x5 + -1 = x5 - 1 := by omega; simp only [e9] at *))
  (try unfold lex3)
  (try simp only [bI_0, bI_n, Classical.not_not] at *)
  (try simp (disch := omega) only [i32_id] at *)
  first | done | omega | ((repeat' (with_reducible apply And.intro)) <;> first | assumption | rfl | omega | (exact (RI_0 (g := s.2 13) (N := t 0 2) (m := f15) (r := f16) (fun y y0 y1 => hI.2 y y0 (by omega))).1) | (exact (RI_0 (g := s.2 13) (N := t 0 2) (m := f15) (r := f16) (fun y y0 y1 => hI.2 y y0 (by omega))).2) | (intro y y0 y1; by_cases e : y = x1; (focus (rw [e, upI_s])); (focus (rw [upI_n _ _ e]; exact hI.2 y y0 (by omega)))) | (exact RI_end hI.2.1 hI.2.2 (by omega)) | (exact ⟨f14, hI.2, WI_0 hN.1⟩) | (rw [show x2 - 1 + 1 = x2 by omega]; exact WI_met hg hx.1 hx.2 hr hu hW c_2 c_3) | (exact ⟨WI_on hg hx.1 hx.2 hr hW c_3, Int.le_refl _⟩) | (exact ⟨t0, ⟨hr, hu⟩, hW⟩) | (exact ⟨t0, ⟨hr, hu⟩, hs.2⟩) | (exact seR_s hS (by assumption)) | (intro i i0 i1; have h9 := hw.2.2 i (by omega) i1; omega) | (rw [show x4 - 1 - 1 + 1 = x4 - 1 by omega]; exact WI_laid hg hx.1 hx.2 hr hu hW (by rw [show x4 - 1 + 1 = x4 by omega]; exact hS) (by assumption) q_7) | (have h9 := WI_laid hg hx.1 hx.2 hr hu hW (j := x4 + -1) (by rw [show x4 + -1 + 1 = x4 by omega]; exact hS) c_2 q_7; first | exact h9 | (rw [show x4 + -1 - 1 + 1 = x4 + -1 by omega]; exact h9)) | (exact (BI_end hI.2.2 (by omega)).1) | (exact (BI_end hI.2.2 (by omega)).2) | (rw [show x5 - 1 + 1 = x5 by omega]; exact hB.2.2) | grind [upI])
theorem vX0_laysRounds_24 (s : MS) (t : Nat → Int → Int) (hp : tOK (t 0) ∧ rng (s.2 13) (t 0 2)) (x1 : Int) (x5 : Int) (f14 : Int → Int) (f15 : Int → Int) (f16 : Int → Int) (f17 : Int → Int) (hI : (0 ≤ x1 ∧ x1 < t 0 2) ∧ (-1 ≤ x5 ∧ x5 < t 0 2) ∧ BI (s.2 13) (t 0 2) x1 (x5 + 1) f14 f15 f16 f17) (c_1 : x5 < 0) : lex3 1 ((t 0 2 - (i32 (x1 + 1))).toNat) 0 1 ((t 0 2 - x1).toNat - 1) ((x5 + 1).toNat + 2) := by
  obtain ⟨ht, hg⟩ := hp
  have hN := tOK_N ht
  (try (have h2 := hI; obtain ⟨hx, t0, ⟨hr, hu⟩, hW⟩ := h2; clear hI; have hw := WI_t hg hx.1 hx.2 hW))
  (try (have h2 := hI; obtain ⟨hx, hS, t0, ⟨hr, hu⟩, hW⟩ := h2; clear hI; have hw := WI_t hg hx.1 hx.2 hW; have hs1 := seR_b hS; have hs2 := hS.2))
  (try have hs := WI_s hg hx.1 hx.2 hW c_2)
  (try have hB := BI_s hg hI.1.1 hI.1.2 hI.2.2 (i := x5) (by omega) (by omega))
  (try simp (disch := omega) only [i32_id] at *)
  (try (have e9 : x4 + -1 = x4 - 1 := by omega; simp only [e9] at *))
  (try (have e9 : x5 + -1 = x5 - 1 := by omega; simp only [e9] at *))
  (try unfold lex3)
  (try simp only [bI_0, bI_n, Classical.not_not] at *)
  (try simp (disch := omega) only [i32_id] at *)
  first | done | omega | ((repeat' (with_reducible apply And.intro)) <;> first | assumption | rfl | omega | (exact (RI_0 (g := s.2 13) (N := t 0 2) (m := f15) (r := f16) (fun y y0 y1 => hI.2 y y0 (by omega))).1) | (exact (RI_0 (g := s.2 13) (N := t 0 2) (m := f15) (r := f16) (fun y y0 y1 => hI.2 y y0 (by omega))).2) | (intro y y0 y1; by_cases e : y = x1; (focus (rw [e, upI_s])); (focus (rw [upI_n _ _ e]; exact hI.2 y y0 (by omega)))) | (exact RI_end hI.2.1 hI.2.2 (by omega)) | (exact ⟨f14, hI.2, WI_0 hN.1⟩) | (rw [show x2 - 1 + 1 = x2 by omega]; exact WI_met hg hx.1 hx.2 hr hu hW c_2 c_3) | (exact ⟨WI_on hg hx.1 hx.2 hr hW c_3, Int.le_refl _⟩) | (exact ⟨t0, ⟨hr, hu⟩, hW⟩) | (exact ⟨t0, ⟨hr, hu⟩, hs.2⟩) | (exact seR_s hS (by assumption)) | (intro i i0 i1; have h9 := hw.2.2 i (by omega) i1; omega) | (rw [show x4 - 1 - 1 + 1 = x4 - 1 by omega]; exact WI_laid hg hx.1 hx.2 hr hu hW (by rw [show x4 - 1 + 1 = x4 by omega]; exact hS) (by assumption) q_7) | (have h9 := WI_laid hg hx.1 hx.2 hr hu hW (j := x4 + -1) (by rw [show x4 + -1 + 1 = x4 by omega]; exact hS) c_2 q_7; first | exact h9 | (rw [show x4 + -1 - 1 + 1 = x4 + -1 by omega]; exact h9)) | (exact (BI_end hI.2.2 (by omega)).1) | (exact (BI_end hI.2.2 (by omega)).2) | (rw [show x5 - 1 + 1 = x5 by omega]; exact hB.2.2) | grind [upI])
theorem vX0_laysRounds_25 (s : MS) (t : Nat → Int → Int) (hp : tOK (t 0) ∧ rng (s.2 13) (t 0 2)) (x1 : Int) (x5 : Int) (f14 : Int → Int) (f15 : Int → Int) (f16 : Int → Int) (f17 : Int → Int) (hI : (0 ≤ x1 ∧ x1 < t 0 2) ∧ (-1 ≤ x5 ∧ x5 < t 0 2) ∧ BI (s.2 13) (t 0 2) x1 (x5 + 1) f14 f15 f16 f17) (c_1 : ¬ x5 < 0) : (0 ≤ x5 ∧ x5 < 10000) := by
  obtain ⟨ht, hg⟩ := hp
  have hN := tOK_N ht
  (try (have h2 := hI; obtain ⟨hx, t0, ⟨hr, hu⟩, hW⟩ := h2; clear hI; have hw := WI_t hg hx.1 hx.2 hW))
  (try (have h2 := hI; obtain ⟨hx, hS, t0, ⟨hr, hu⟩, hW⟩ := h2; clear hI; have hw := WI_t hg hx.1 hx.2 hW; have hs1 := seR_b hS; have hs2 := hS.2))
  (try have hs := WI_s hg hx.1 hx.2 hW c_2)
  (try have hB := BI_s hg hI.1.1 hI.1.2 hI.2.2 (i := x5) (by omega) (by omega))
  (try simp (disch := omega) only [i32_id] at *)
  (try (have e9 : x4 + -1 = x4 - 1 := by omega; simp only [e9] at *))
  (try (have e9 : x5 + -1 = x5 - 1 := by omega; simp only [e9] at *))
  (try unfold lex3)
  (try simp only [bI_0, bI_n, Classical.not_not] at *)
  (try simp (disch := omega) only [i32_id] at *)
  first | done | omega | ((repeat' (with_reducible apply And.intro)) <;> first | assumption | rfl | omega | (exact (RI_0 (g := s.2 13) (N := t 0 2) (m := f15) (r := f16) (fun y y0 y1 => hI.2 y y0 (by omega))).1) | (exact (RI_0 (g := s.2 13) (N := t 0 2) (m := f15) (r := f16) (fun y y0 y1 => hI.2 y y0 (by omega))).2) | (intro y y0 y1; by_cases e : y = x1; (focus (rw [e, upI_s])); (focus (rw [upI_n _ _ e]; exact hI.2 y y0 (by omega)))) | (exact RI_end hI.2.1 hI.2.2 (by omega)) | (exact ⟨f14, hI.2, WI_0 hN.1⟩) | (rw [show x2 - 1 + 1 = x2 by omega]; exact WI_met hg hx.1 hx.2 hr hu hW c_2 c_3) | (exact ⟨WI_on hg hx.1 hx.2 hr hW c_3, Int.le_refl _⟩) | (exact ⟨t0, ⟨hr, hu⟩, hW⟩) | (exact ⟨t0, ⟨hr, hu⟩, hs.2⟩) | (exact seR_s hS (by assumption)) | (intro i i0 i1; have h9 := hw.2.2 i (by omega) i1; omega) | (rw [show x4 - 1 - 1 + 1 = x4 - 1 by omega]; exact WI_laid hg hx.1 hx.2 hr hu hW (by rw [show x4 - 1 + 1 = x4 by omega]; exact hS) (by assumption) q_7) | (have h9 := WI_laid hg hx.1 hx.2 hr hu hW (j := x4 + -1) (by rw [show x4 + -1 + 1 = x4 by omega]; exact hS) c_2 q_7; first | exact h9 | (rw [show x4 + -1 - 1 + 1 = x4 + -1 by omega]; exact h9)) | (exact (BI_end hI.2.2 (by omega)).1) | (exact (BI_end hI.2.2 (by omega)).2) | (rw [show x5 - 1 + 1 = x5 by omega]; exact hB.2.2) | grind [upI])
theorem vX0_laysRounds_26 (s : MS) (t : Nat → Int → Int) (hp : tOK (t 0) ∧ rng (s.2 13) (t 0 2)) (x1 : Int) (x5 : Int) (f14 : Int → Int) (f15 : Int → Int) (f16 : Int → Int) (f17 : Int → Int) (hI : (0 ≤ x1 ∧ x1 < t 0 2) ∧ (-1 ≤ x5 ∧ x5 < t 0 2) ∧ BI (s.2 13) (t 0 2) x1 (x5 + 1) f14 f15 f16 f17) (c_1 : ¬ x5 < 0) (o_2 : (0 ≤ x5 ∧ x5 < 10000)) : (0 ≤ (f17 x5) ∧ (f17 x5) < 10000) := by
  obtain ⟨ht, hg⟩ := hp
  have hN := tOK_N ht
  (try (have h2 := hI; obtain ⟨hx, t0, ⟨hr, hu⟩, hW⟩ := h2; clear hI; have hw := WI_t hg hx.1 hx.2 hW))
  (try (have h2 := hI; obtain ⟨hx, hS, t0, ⟨hr, hu⟩, hW⟩ := h2; clear hI; have hw := WI_t hg hx.1 hx.2 hW; have hs1 := seR_b hS; have hs2 := hS.2))
  (try have hs := WI_s hg hx.1 hx.2 hW c_2)
  (try have hB := BI_s hg hI.1.1 hI.1.2 hI.2.2 (i := x5) (by omega) (by omega))
  (try simp (disch := omega) only [i32_id] at *)
  (try (have e9 : x4 + -1 = x4 - 1 := by omega; simp only [e9] at *))
  (try (have e9 : x5 + -1 = x5 - 1 := by omega; simp only [e9] at *))
  (try unfold lex3)
  (try simp only [bI_0, bI_n, Classical.not_not] at *)
  (try simp (disch := omega) only [i32_id] at *)
  first | done | omega | ((repeat' (with_reducible apply And.intro)) <;> first | assumption | rfl | omega | (exact (RI_0 (g := s.2 13) (N := t 0 2) (m := f15) (r := f16) (fun y y0 y1 => hI.2 y y0 (by omega))).1) | (exact (RI_0 (g := s.2 13) (N := t 0 2) (m := f15) (r := f16) (fun y y0 y1 => hI.2 y y0 (by omega))).2) | (intro y y0 y1; by_cases e : y = x1; (focus (rw [e, upI_s])); (focus (rw [upI_n _ _ e]; exact hI.2 y y0 (by omega)))) | (exact RI_end hI.2.1 hI.2.2 (by omega)) | (exact ⟨f14, hI.2, WI_0 hN.1⟩) | (rw [show x2 - 1 + 1 = x2 by omega]; exact WI_met hg hx.1 hx.2 hr hu hW c_2 c_3) | (exact ⟨WI_on hg hx.1 hx.2 hr hW c_3, Int.le_refl _⟩) | (exact ⟨t0, ⟨hr, hu⟩, hW⟩) | (exact ⟨t0, ⟨hr, hu⟩, hs.2⟩) | (exact seR_s hS (by assumption)) | (intro i i0 i1; have h9 := hw.2.2 i (by omega) i1; omega) | (rw [show x4 - 1 - 1 + 1 = x4 - 1 by omega]; exact WI_laid hg hx.1 hx.2 hr hu hW (by rw [show x4 - 1 + 1 = x4 by omega]; exact hS) (by assumption) q_7) | (have h9 := WI_laid hg hx.1 hx.2 hr hu hW (j := x4 + -1) (by rw [show x4 + -1 + 1 = x4 by omega]; exact hS) c_2 q_7; first | exact h9 | (rw [show x4 + -1 - 1 + 1 = x4 + -1 by omega]; exact h9)) | (exact (BI_end hI.2.2 (by omega)).1) | (exact (BI_end hI.2.2 (by omega)).2) | (rw [show x5 - 1 + 1 = x5 by omega]; exact hB.2.2) | grind [upI])
theorem vX0_laysRounds_27 (s : MS) (t : Nat → Int → Int) (hp : tOK (t 0) ∧ rng (s.2 13) (t 0 2)) (x1 : Int) (x5 : Int) (f14 : Int → Int) (f15 : Int → Int) (f16 : Int → Int) (f17 : Int → Int) (hI : (0 ≤ x1 ∧ x1 < t 0 2) ∧ (-1 ≤ x5 ∧ x5 < t 0 2) ∧ BI (s.2 13) (t 0 2) x1 (x5 + 1) f14 f15 f16 f17) (c_1 : ¬ x5 < 0) (o_2 : (0 ≤ x5 ∧ x5 < 10000)) (o_3 : (0 ≤ (f17 x5) ∧ (f17 x5) < 10000)) : (0 ≤ (s.2 13 (f17 x5)) ∧ (s.2 13 (f17 x5)) < 10000) := by
  obtain ⟨ht, hg⟩ := hp
  have hN := tOK_N ht
  (try (have h2 := hI; obtain ⟨hx, t0, ⟨hr, hu⟩, hW⟩ := h2; clear hI; have hw := WI_t hg hx.1 hx.2 hW))
  (try (have h2 := hI; obtain ⟨hx, hS, t0, ⟨hr, hu⟩, hW⟩ := h2; clear hI; have hw := WI_t hg hx.1 hx.2 hW; have hs1 := seR_b hS; have hs2 := hS.2))
  (try have hs := WI_s hg hx.1 hx.2 hW c_2)
  (try have hB := BI_s hg hI.1.1 hI.1.2 hI.2.2 (i := x5) (by omega) (by omega))
  (try simp (disch := omega) only [i32_id] at *)
  (try (have e9 : x4 + -1 = x4 - 1 := by omega; simp only [e9] at *))
  (try (have e9 : x5 + -1 = x5 - 1 := by omega; simp only [e9] at *))
  (try unfold lex3)
  (try simp only [bI_0, bI_n, Classical.not_not] at *)
  (try simp (disch := omega) only [i32_id] at *)
  first | done | omega | ((repeat' (with_reducible apply And.intro)) <;> first | assumption | rfl | omega | (exact (RI_0 (g := s.2 13) (N := t 0 2) (m := f15) (r := f16) (fun y y0 y1 => hI.2 y y0 (by omega))).1) | (exact (RI_0 (g := s.2 13) (N := t 0 2) (m := f15) (r := f16) (fun y y0 y1 => hI.2 y y0 (by omega))).2) | (intro y y0 y1; by_cases e : y = x1; (focus (rw [e, upI_s])); (focus (rw [upI_n _ _ e]; exact hI.2 y y0 (by omega)))) | (exact RI_end hI.2.1 hI.2.2 (by omega)) | (exact ⟨f14, hI.2, WI_0 hN.1⟩) | (rw [show x2 - 1 + 1 = x2 by omega]; exact WI_met hg hx.1 hx.2 hr hu hW c_2 c_3) | (exact ⟨WI_on hg hx.1 hx.2 hr hW c_3, Int.le_refl _⟩) | (exact ⟨t0, ⟨hr, hu⟩, hW⟩) | (exact ⟨t0, ⟨hr, hu⟩, hs.2⟩) | (exact seR_s hS (by assumption)) | (intro i i0 i1; have h9 := hw.2.2 i (by omega) i1; omega) | (rw [show x4 - 1 - 1 + 1 = x4 - 1 by omega]; exact WI_laid hg hx.1 hx.2 hr hu hW (by rw [show x4 - 1 + 1 = x4 by omega]; exact hS) (by assumption) q_7) | (have h9 := WI_laid hg hx.1 hx.2 hr hu hW (j := x4 + -1) (by rw [show x4 + -1 + 1 = x4 by omega]; exact hS) c_2 q_7; first | exact h9 | (rw [show x4 + -1 - 1 + 1 = x4 + -1 by omega]; exact h9)) | (exact (BI_end hI.2.2 (by omega)).1) | (exact (BI_end hI.2.2 (by omega)).2) | (rw [show x5 - 1 + 1 = x5 by omega]; exact hB.2.2) | grind [upI])
theorem vX0_laysRounds_28 (s : MS) (t : Nat → Int → Int) (hp : tOK (t 0) ∧ rng (s.2 13) (t 0 2)) (x1 : Int) (x5 : Int) (f14 : Int → Int) (f15 : Int → Int) (f16 : Int → Int) (f17 : Int → Int) (hI : (0 ≤ x1 ∧ x1 < t 0 2) ∧ (-1 ≤ x5 ∧ x5 < t 0 2) ∧ BI (s.2 13) (t 0 2) x1 (x5 + 1) f14 f15 f16 f17) (c_1 : ¬ x5 < 0) (o_2 : (0 ≤ x5 ∧ x5 < 10000)) (o_3 : (0 ≤ (f17 x5) ∧ (f17 x5) < 10000)) (o_4 : (0 ≤ (s.2 13 (f17 x5)) ∧ (s.2 13 (f17 x5)) < 10000)) : (0 ≤ x1 ∧ x1 < t 0 2) ∧ (-1 ≤ (i32 (x5 + (-1))) ∧ (i32 (x5 + (-1))) < t 0 2) ∧ BI (s.2 13) (t 0 2) x1 ((i32 (x5 + (-1))) + 1) (upI f14 (f17 x5) (i32 ((f14 (s.2 13 (f17 x5))) + 1))) (upI f15 (f17 x5) (f15 (s.2 13 (f17 x5)))) f16 f17 := by
  obtain ⟨ht, hg⟩ := hp
  have hN := tOK_N ht
  (try (have h2 := hI; obtain ⟨hx, t0, ⟨hr, hu⟩, hW⟩ := h2; clear hI; have hw := WI_t hg hx.1 hx.2 hW))
  (try (have h2 := hI; obtain ⟨hx, hS, t0, ⟨hr, hu⟩, hW⟩ := h2; clear hI; have hw := WI_t hg hx.1 hx.2 hW; have hs1 := seR_b hS; have hs2 := hS.2))
  (try have hs := WI_s hg hx.1 hx.2 hW c_2)
  (try have hB := BI_s hg hI.1.1 hI.1.2 hI.2.2 (i := x5) (by omega) (by omega))
  (try simp (disch := omega) only [i32_id] at *)
  (try (have e9 : x4 + -1 = x4 - 1 := by omega; simp only [e9] at *))
  (try (have e9 : x5 + -1 = x5 - 1 := by omega; simp only [e9] at *))
  (try unfold lex3)
  (try simp only [bI_0, bI_n, Classical.not_not] at *)
  (try simp (disch := omega) only [i32_id] at *)
  first | done | omega | ((repeat' (with_reducible apply And.intro)) <;> first | assumption | rfl | omega | (exact (RI_0 (g := s.2 13) (N := t 0 2) (m := f15) (r := f16) (fun y y0 y1 => hI.2 y y0 (by omega))).1) | (exact (RI_0 (g := s.2 13) (N := t 0 2) (m := f15) (r := f16) (fun y y0 y1 => hI.2 y y0 (by omega))).2) | (intro y y0 y1; by_cases e : y = x1; (focus (rw [e, upI_s])); (focus (rw [upI_n _ _ e]; exact hI.2 y y0 (by omega)))) | (exact RI_end hI.2.1 hI.2.2 (by omega)) | (exact ⟨f14, hI.2, WI_0 hN.1⟩) | (rw [show x2 - 1 + 1 = x2 by omega]; exact WI_met hg hx.1 hx.2 hr hu hW c_2 c_3) | (exact ⟨WI_on hg hx.1 hx.2 hr hW c_3, Int.le_refl _⟩) | (exact ⟨t0, ⟨hr, hu⟩, hW⟩) | (exact ⟨t0, ⟨hr, hu⟩, hs.2⟩) | (exact seR_s hS (by assumption)) | (intro i i0 i1; have h9 := hw.2.2 i (by omega) i1; omega) | (rw [show x4 - 1 - 1 + 1 = x4 - 1 by omega]; exact WI_laid hg hx.1 hx.2 hr hu hW (by rw [show x4 - 1 + 1 = x4 by omega]; exact hS) (by assumption) q_7) | (have h9 := WI_laid hg hx.1 hx.2 hr hu hW (j := x4 + -1) (by rw [show x4 + -1 + 1 = x4 by omega]; exact hS) c_2 q_7; first | exact h9 | (rw [show x4 + -1 - 1 + 1 = x4 + -1 by omega]; exact h9)) | (exact (BI_end hI.2.2 (by omega)).1) | (exact (BI_end hI.2.2 (by omega)).2) | (rw [show x5 - 1 + 1 = x5 by omega]; exact hB.2.2) | grind [upI])
theorem vX0_laysRounds_29 (s : MS) (t : Nat → Int → Int) (hp : tOK (t 0) ∧ rng (s.2 13) (t 0 2)) (x1 : Int) (x5 : Int) (f14 : Int → Int) (f15 : Int → Int) (f16 : Int → Int) (f17 : Int → Int) (hI : (0 ≤ x1 ∧ x1 < t 0 2) ∧ (-1 ≤ x5 ∧ x5 < t 0 2) ∧ BI (s.2 13) (t 0 2) x1 (x5 + 1) f14 f15 f16 f17) (c_1 : ¬ x5 < 0) (o_2 : (0 ≤ x5 ∧ x5 < 10000)) (o_3 : (0 ≤ (f17 x5) ∧ (f17 x5) < 10000)) (o_4 : (0 ≤ (s.2 13 (f17 x5)) ∧ (s.2 13 (f17 x5)) < 10000)) : lex3 1 ((t 0 2 - x1).toNat - 1) (((i32 (x5 + (-1))) + 1).toNat + 2) 1 ((t 0 2 - x1).toNat - 1) ((x5 + 1).toNat + 2) := by
  obtain ⟨ht, hg⟩ := hp
  have hN := tOK_N ht
  (try (have h2 := hI; obtain ⟨hx, t0, ⟨hr, hu⟩, hW⟩ := h2; clear hI; have hw := WI_t hg hx.1 hx.2 hW))
  (try (have h2 := hI; obtain ⟨hx, hS, t0, ⟨hr, hu⟩, hW⟩ := h2; clear hI; have hw := WI_t hg hx.1 hx.2 hW; have hs1 := seR_b hS; have hs2 := hS.2))
  (try have hs := WI_s hg hx.1 hx.2 hW c_2)
  (try have hB := BI_s hg hI.1.1 hI.1.2 hI.2.2 (i := x5) (by omega) (by omega))
  (try simp (disch := omega) only [i32_id] at *)
  (try (have e9 : x4 + -1 = x4 - 1 := by omega; simp only [e9] at *))
  (try (have e9 : x5 + -1 = x5 - 1 := by omega; simp only [e9] at *))
  (try unfold lex3)
  (try simp only [bI_0, bI_n, Classical.not_not] at *)
  (try simp (disch := omega) only [i32_id] at *)
  first | done | omega | ((repeat' (with_reducible apply And.intro)) <;> first | assumption | rfl | omega | (exact (RI_0 (g := s.2 13) (N := t 0 2) (m := f15) (r := f16) (fun y y0 y1 => hI.2 y y0 (by omega))).1) | (exact (RI_0 (g := s.2 13) (N := t 0 2) (m := f15) (r := f16) (fun y y0 y1 => hI.2 y y0 (by omega))).2) | (intro y y0 y1; by_cases e : y = x1; (focus (rw [e, upI_s])); (focus (rw [upI_n _ _ e]; exact hI.2 y y0 (by omega)))) | (exact RI_end hI.2.1 hI.2.2 (by omega)) | (exact ⟨f14, hI.2, WI_0 hN.1⟩) | (rw [show x2 - 1 + 1 = x2 by omega]; exact WI_met hg hx.1 hx.2 hr hu hW c_2 c_3) | (exact ⟨WI_on hg hx.1 hx.2 hr hW c_3, Int.le_refl _⟩) | (exact ⟨t0, ⟨hr, hu⟩, hW⟩) | (exact ⟨t0, ⟨hr, hu⟩, hs.2⟩) | (exact seR_s hS (by assumption)) | (intro i i0 i1; have h9 := hw.2.2 i (by omega) i1; omega) | (rw [show x4 - 1 - 1 + 1 = x4 - 1 by omega]; exact WI_laid hg hx.1 hx.2 hr hu hW (by rw [show x4 - 1 + 1 = x4 by omega]; exact hS) (by assumption) q_7) | (have h9 := WI_laid hg hx.1 hx.2 hr hu hW (j := x4 + -1) (by rw [show x4 + -1 + 1 = x4 by omega]; exact hS) c_2 q_7; first | exact h9 | (rw [show x4 + -1 - 1 + 1 = x4 + -1 by omega]; exact h9)) | (exact (BI_end hI.2.2 (by omega)).1) | (exact (BI_end hI.2.2 (by omega)).2) | (rw [show x5 - 1 + 1 = x5 by omega]; exact hB.2.2) | grind [upI])
theorem vX0_laysRounds_30 (s : MS) (t : Nat → Int → Int) (hp : tOK (t 0) ∧ rng (s.2 13) (t 0 2)) : (0 ≤ (0 : Int) ∧ (0 : Int) ≤ t 0 2) ∧ ∀ y : Int, 0 ≤ y → y < (0 : Int) → (s.2 14) y = -1 := by
  obtain ⟨ht, hg⟩ := hp
  have hN := tOK_N ht
  (try (have h2 := hI; obtain ⟨hx, t0, ⟨hr, hu⟩, hW⟩ := h2; clear hI; have hw := WI_t hg hx.1 hx.2 hW))
  (try (have h2 := hI; obtain ⟨hx, hS, t0, ⟨hr, hu⟩, hW⟩ := h2; clear hI; have hw := WI_t hg hx.1 hx.2 hW; have hs1 := seR_b hS; have hs2 := hS.2))
  (try have hs := WI_s hg hx.1 hx.2 hW c_2)
  (try have hB := BI_s hg hI.1.1 hI.1.2 hI.2.2 (i := x5) (by omega) (by omega))
  (try simp (disch := omega) only [i32_id] at *)
  (try (have e9 : x4 + -1 = x4 - 1 := by omega; simp only [e9] at *))
  (try (have e9 : x5 + -1 = x5 - 1 := by omega; simp only [e9] at *))
  (try unfold lex3)
  (try simp only [bI_0, bI_n, Classical.not_not] at *)
  (try simp (disch := omega) only [i32_id] at *)
  first | done | omega | ((repeat' (with_reducible apply And.intro)) <;> first | assumption | rfl | omega | (exact (RI_0 (g := s.2 13) (N := t 0 2) (m := f15) (r := f16) (fun y y0 y1 => hI.2 y y0 (by omega))).1) | (exact (RI_0 (g := s.2 13) (N := t 0 2) (m := f15) (r := f16) (fun y y0 y1 => hI.2 y y0 (by omega))).2) | (intro y y0 y1; by_cases e : y = x1; (focus (rw [e, upI_s])); (focus (rw [upI_n _ _ e]; exact hI.2 y y0 (by omega)))) | (exact RI_end hI.2.1 hI.2.2 (by omega)) | (exact ⟨f14, hI.2, WI_0 hN.1⟩) | (rw [show x2 - 1 + 1 = x2 by omega]; exact WI_met hg hx.1 hx.2 hr hu hW c_2 c_3) | (exact ⟨WI_on hg hx.1 hx.2 hr hW c_3, Int.le_refl _⟩) | (exact ⟨t0, ⟨hr, hu⟩, hW⟩) | (exact ⟨t0, ⟨hr, hu⟩, hs.2⟩) | (exact seR_s hS (by assumption)) | (intro i i0 i1; have h9 := hw.2.2 i (by omega) i1; omega) | (rw [show x4 - 1 - 1 + 1 = x4 - 1 by omega]; exact WI_laid hg hx.1 hx.2 hr hu hW (by rw [show x4 - 1 + 1 = x4 by omega]; exact hS) (by assumption) q_7) | (have h9 := WI_laid hg hx.1 hx.2 hr hu hW (j := x4 + -1) (by rw [show x4 + -1 + 1 = x4 by omega]; exact hS) c_2 q_7; first | exact h9 | (rw [show x4 + -1 - 1 + 1 = x4 + -1 by omega]; exact h9)) | (exact (BI_end hI.2.2 (by omega)).1) | (exact (BI_end hI.2.2 (by omega)).2) | (rw [show x5 - 1 + 1 = x5 by omega]; exact hB.2.2) | grind [upI])
theorem allX0_laysRounds (b : AH) (s : MS) (t : Nat → Int → Int) (hp : tOK (t 0) ∧ rng (s.2 13) (t 0 2)) (hT : XTs b s t) : ∀ m1 m2 m3 : Nat, (∀ (x1 : Int) (f14 : Int → Int) (f15 : Int → Int) (f16 : Int → Int) (f17 : Int → Int), m1 = 2 → m2 = 0 → m3 = ((t 0 2 - x1).toNat) → ((0 ≤ x1 ∧ x1 ≤ t 0 2) ∧ ∀ y : Int, 0 ≤ y → y < x1 → f14 y = -1) → HX0_laysRounds_2 (QX0_laysRounds s t) b s t x1 f14 f15 f16 f17) ∧ (∀ (x1 : Int) (f14 : Int → Int) (f15 : Int → Int) (f16 : Int → Int) (f17 : Int → Int), m1 = 1 → m2 = ((t 0 2 - x1).toNat) → m3 = 0 → ((0 ≤ x1 ∧ x1 ≤ t 0 2) ∧ RI (s.2 13) (t 0 2) f14 f15 f16 ∧ upT x1 f14) → HX0_laysRounds_28 (QX0_laysRounds s t) b s t x1 f14 f15 f16 f17) ∧ (∀ (x1 : Int) (x2 : Int) (x3 : Int) (f14 : Int → Int) (f15 : Int → Int) (f16 : Int → Int) (f17 : Int → Int), m1 = 1 → m2 = ((t 0 2 - x1).toNat - 1) → m3 = (40000 + (t 0 2 - x2).toNat) → ((0 ≤ x1 ∧ x1 < t 0 2) ∧ ∃ t0, (RI (s.2 13) (t 0 2) t0 f15 f16 ∧ upT x1 t0) ∧ WI (s.2 13) (t 0 2) x1 x2 x3 t0 f14 f17) → HX0_laysRounds_43 (QX0_laysRounds s t) b s t x1 x2 x3 f14 f15 f16 f17) ∧ (∀ (x1 : Int) (x2 : Int) (x3 : Int) (x4 : Int) (f14 : Int → Int) (f15 : Int → Int) (f16 : Int → Int) (f17 : Int → Int), m1 = 1 → m2 = ((t 0 2 - x1).toNat - 1) → m3 = (11000 + x4.toNat) → ((0 ≤ x1 ∧ x1 < t 0 2) ∧ seR f17 x2 x3 x4 ∧ ∃ t0, (RI (s.2 13) (t 0 2) t0 f15 f16 ∧ upT x1 t0) ∧ WI (s.2 13) (t 0 2) x1 x2 x3 t0 f14 f17) → HX0_laysRounds_95 (QX0_laysRounds s t) b s t x1 x2 x3 x4 f14 f15 f16 f17) ∧ (∀ (x1 : Int) (x5 : Int) (f14 : Int → Int) (f15 : Int → Int) (f16 : Int → Int) (f17 : Int → Int), m1 = 1 → m2 = ((t 0 2 - x1).toNat - 1) → m3 = ((x5 + 1).toNat + 2) → ((0 ≤ x1 ∧ x1 < t 0 2) ∧ (-1 ≤ x5 ∧ x5 < t 0 2) ∧ BI (s.2 13) (t 0 2) x1 (x5 + 1) f14 f15 f16 f17) → HX0_laysRounds_122 (QX0_laysRounds s t) b s t x1 x5 f14 f15 f16 f17) := by
  refine lex3_ind ?_
  intro m1 m2 m3 ih
  refine ⟨?_, ?_, ?_, ?_, ?_⟩
  · rintro x1 f14 f15 f16 f17 rfl rfl rfl hI
    refine bX0_laysRounds_2 b s t x1 f14 f15 f16 f17 hT ?_
    refine ⟨fun c_1 => ?_, fun c_1 => ?_⟩
    · exact (ih _ _ _ (vX0_laysRounds_2 s t hp x1 f14 f15 f16 f17 hI c_1)).2.1 0 f14 f15 f16 f17 rfl rfl rfl (vX0_laysRounds_1 s t hp x1 f14 f15 f16 f17 hI c_1)
    · have o_2 : (0 ≤ x1 ∧ x1 < 10000) := (vX0_laysRounds_3 s t hp x1 f14 f15 f16 f17 hI c_1)
      refine ⟨o_2, ?_⟩
      exact (ih _ _ _ (vX0_laysRounds_5 s t hp x1 f14 f15 f16 f17 hI c_1 o_2)).1 (i32 (x1 + 1)) (upI f14 x1 (-1)) f15 f16 f17 rfl rfl rfl (vX0_laysRounds_4 s t hp x1 f14 f15 f16 f17 hI c_1 o_2)
  · rintro x1 f14 f15 f16 f17 rfl rfl rfl hI
    refine bX0_laysRounds_28 b s t x1 f14 f15 f16 f17 hT ?_
    refine ⟨fun c_1 => ?_, fun c_1 => ?_⟩
    · exact ⟨f14, f15, f16, f17, rfl, rfl, (vX0_laysRounds_6 s t hp x1 f14 f15 f16 f17 hI c_1)⟩
    · exact (ih _ _ _ (vX0_laysRounds_8 s t hp x1 f14 f15 f16 f17 hI c_1)).2.2.1 x1 0 x1 f14 f15 f16 f17 rfl rfl rfl (vX0_laysRounds_7 s t hp x1 f14 f15 f16 f17 hI c_1)
  · rintro x1 x2 x3 f14 f15 f16 f17 rfl rfl rfl hI
    refine bX0_laysRounds_43 b s t x1 x2 x3 f14 f15 f16 f17 hT ?_
    have o_1 : (0 ≤ x3 ∧ x3 < 10000) := (vX0_laysRounds_9 s t hp x1 x2 x3 f14 f15 f16 f17 hI)
    refine ⟨o_1, ?_⟩
    refine ⟨fun c_2 => ?_, fun c_2 => ?_⟩
    · refine ⟨fun c_3 => ?_, fun c_3 => ?_⟩
      · exact (ih _ _ _ (vX0_laysRounds_11 s t hp x1 x2 x3 f14 f15 f16 f17 hI o_1 c_2 c_3)).2.2.2.2 x1 (i32 (x2 - 1)) f14 f15 f16 f17 rfl rfl rfl (vX0_laysRounds_10 s t hp x1 x2 x3 f14 f15 f16 f17 hI o_1 c_2 c_3)
      · exact (ih _ _ _ (vX0_laysRounds_13 s t hp x1 x2 x3 f14 f15 f16 f17 hI o_1 c_2 c_3)).2.2.2.1 x1 x2 x3 x2 f14 f15 f16 f17 rfl rfl rfl (vX0_laysRounds_12 s t hp x1 x2 x3 f14 f15 f16 f17 hI o_1 c_2 c_3)
    · have o_4 : (0 ≤ x2 ∧ x2 < 10000) := (vX0_laysRounds_14 s t hp x1 x2 x3 f14 f15 f16 f17 hI o_1 c_2)
      refine ⟨o_4, ?_⟩
      exact (ih _ _ _ (vX0_laysRounds_16 s t hp x1 x2 x3 f14 f15 f16 f17 hI o_1 c_2 o_4)).2.2.1 x1 (i32 (x2 + 1)) (s.2 13 x3) (upI f14 x3 (-2)) f15 f16 (upI f17 x2 x3) rfl rfl rfl (vX0_laysRounds_15 s t hp x1 x2 x3 f14 f15 f16 f17 hI o_1 c_2 o_4)
  · rintro x1 x2 x3 x4 f14 f15 f16 f17 rfl rfl rfl hI
    refine bX0_laysRounds_95 b s t x1 x2 x3 x4 f14 f15 f16 f17 hT ?_
    have o_1 : (0 ≤ (i32 (x4 + (-1))) ∧ (i32 (x4 + (-1))) < 10000) := (vX0_laysRounds_17 s t hp x1 x2 x3 x4 f14 f15 f16 f17 hI)
    refine ⟨o_1, ?_⟩
    refine ⟨fun c_2 => ?_, fun c_2 => ?_⟩
    · exact (ih _ _ _ (vX0_laysRounds_19 s t hp x1 x2 x3 x4 f14 f15 f16 f17 hI o_1 c_2)).2.2.2.1 x1 x2 x3 (i32 (x4 + (-1))) f14 f15 f16 f17 rfl rfl rfl (vX0_laysRounds_18 s t hp x1 x2 x3 x4 f14 f15 f16 f17 hI o_1 c_2)
    · have o_3 : ((0 ≤ (i32 (x4 + (-1))) ∧ (i32 (x4 + (-1))) < x2 ∧ x2 ≤ 10000) ∧ ∀ i : Int, (i32 (x4 + (-1))) ≤ i → i < x2 → 0 ≤ f17 i ∧ f17 i < 10000) := (vX0_laysRounds_20 s t hp x1 x2 x3 x4 f14 f15 f16 f17 hI o_1 c_2)
      refine ⟨o_3, ?_⟩
      intro f_4 f_5 f_6 q_7
      exact (ih _ _ _ (vX0_laysRounds_22 s t hp x1 x2 x3 x4 f14 f15 f16 f17 hI o_1 c_2 o_3 f_4 f_5 f_6 q_7)).2.2.2.2 x1 (i32 ((i32 (x4 + (-1))) - 1)) f_4 f_5 f_6 f17 rfl rfl rfl (vX0_laysRounds_21 s t hp x1 x2 x3 x4 f14 f15 f16 f17 hI o_1 c_2 o_3 f_4 f_5 f_6 q_7)
  · rintro x1 x5 f14 f15 f16 f17 rfl rfl rfl hI
    refine bX0_laysRounds_122 b s t x1 x5 f14 f15 f16 f17 hT ?_
    refine ⟨fun c_1 => ?_, fun c_1 => ?_⟩
    · exact (ih _ _ _ (vX0_laysRounds_24 s t hp x1 x5 f14 f15 f16 f17 hI c_1)).2.1 (i32 (x1 + 1)) f14 f15 f16 f17 rfl rfl rfl (vX0_laysRounds_23 s t hp x1 x5 f14 f15 f16 f17 hI c_1)
    · have o_2 : (0 ≤ x5 ∧ x5 < 10000) := (vX0_laysRounds_25 s t hp x1 x5 f14 f15 f16 f17 hI c_1)
      refine ⟨o_2, ?_⟩
      have o_3 : (0 ≤ (f17 x5) ∧ (f17 x5) < 10000) := (vX0_laysRounds_26 s t hp x1 x5 f14 f15 f16 f17 hI c_1 o_2)
      refine ⟨o_3, ?_⟩
      have o_4 : (0 ≤ (s.2 13 (f17 x5)) ∧ (s.2 13 (f17 x5)) < 10000) := (vX0_laysRounds_27 s t hp x1 x5 f14 f15 f16 f17 hI c_1 o_2 o_3)
      refine ⟨o_4, ?_⟩
      exact (ih _ _ _ (vX0_laysRounds_29 s t hp x1 x5 f14 f15 f16 f17 hI c_1 o_2 o_3 o_4)).2.2.2.2 x1 (i32 (x5 + (-1))) (upI f14 (f17 x5) (i32 ((f14 (s.2 13 (f17 x5))) + 1))) (upI f15 (f17 x5) (f15 (s.2 13 (f17 x5)))) f16 f17 rfl rfl rfl (vX0_laysRounds_28 s t hp x1 x5 f14 f15 f16 f17 hI c_1 o_2 o_3 o_4)
theorem ctX0_laysRounds (b : AH) (s : MS) (t : Nat → Int → Int) (hT : XTs b s t) (hp : tOK (t 0) ∧ rng (s.2 13) (t 0 2)) : XC mX0_laysRounds 3 b s [] (QX0_laysRounds s t) := by
  refine XC.of (by decide) rfl (Nat.le_of_ble_eq_true rfl) (JW.xsteq (s2 := sA (sA (sA (sA s 14 (s.2 14)) 15 (s.2 15)) 16 (s.2 16)) 17 (s.2 17)) (by simp only [sA_id, sS_id]) ?_)
  refine bX0_laysRounds_0 b s t (s.2 14) (s.2 15) (s.2 16) (s.2 17) hT ?_
  exact (allX0_laysRounds b s t hp hT _ _ _).1 0 (s.2 14) (s.2 15) (s.2 16) (s.2 17) rfl rfl rfl (vX0_laysRounds_30 s t hp)
