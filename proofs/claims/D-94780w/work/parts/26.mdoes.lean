/-! contracts of the reference: does -/
set_option maxRecDepth 100000
def HX3_does_0 (Q : Option AV → MS → Prop) (b : AH) (s : MS) (x1 : Int) (x2 : Int) (x3 : Int) (f11 : Int → Int) (f12 : Int → Int) (k25 : Int) : Prop := MW mX3_does 4 Q b 0 [(0, vR 351), (1, vI x1), (2, vI x2), (3, vI x3)] [] (sS (sA (sA s 11 f11) 12 f12) 25 k25)
theorem bX3_does_0 {Q : Option AV → MS → Prop} (b : AH) (s : MS) (x1 : Int) (x2 : Int) (x3 : Int) (f11 : Int → Int) (f12 : Int → Int) (k25 : Int) (K : (x2 = 0 → (tOK (s.2 6) ∧ 0 ≤ x1 ∧ x1 ≤ 100000) ∧ ((∀ (f_3 : Int → Int), (s.2 6 2) ≠ 0 ∧ (Q (some (vI (i32 (Int.tmod (dnv ((s.2 6) 0) ((s.2 6) 1) x1) (s.2 6 2))))) (sS (sA (sA s 11 (figs ((s.2 6) 0) ((s.2 6) 1) x1 f11)) 12 f_3) 25 k25))))) ∧ ((x2 = 1 → (tOK (s.2 6) ∧ 0 ≤ x1 ∧ x1 ≤ 100000) ∧ ((∀ (f_8 : Int → Int), (s.2 6 2) ≠ 0 ∧ (Q (some (vI (i32 (Int.tmod (upv ((s.2 6) 0) ((s.2 6) 1) x1) (s.2 6 2))))) (sS (sA (sA s 11 (figs ((s.2 6) 0) ((s.2 6) 1) x1 f11)) 12 f_8) 25 k25))))) ∧ ((x2 = 2 → (tOK (s.2 6) ∧ 0 ≤ x1 ∧ x1 ≤ 100000) ∧ ((s.2 6 2) ≠ 0 ∧ (Q (some (vI (i32 (Int.tmod (trn ((s.2 6) 0) ((s.2 6) 1) x1) (s.2 6 2))))) (sS (sA (sA s 11 (figs ((s.2 6) 0) ((s.2 6) 1) x1 f11)) 12 f12) 25 k25)))) ∧ ((x2 = 3 → (s.2 6 2) ≠ 0 ∧ (Q (some (vI (i32 (Int.tmod x1 (s.2 6 2))))) (sS (sA (sA s 11 f11) 12 f12) 25 x1))) ∧ ((x2 = 4 → (s.2 6 2) ≠ 0 ∧ (Q (some (vI (i32 (Int.tmod k25 (s.2 6 2))))) (sS (sA (sA s 11 f11) 12 f12) 25 k25))) ∧ ((x2 = 5 → (x1 ≤ k25 → (s.2 6 2) ≠ 0 ∧ (Q (some (vI (i32 (Int.tmod (i32 (k25 - x1)) (s.2 6 2))))) (sS (sA (sA s 11 f11) 12 f12) 25 k25))) ∧ (¬ x1 ≤ k25 → (s.2 6 2) ≠ 0 ∧ (Q (some (vI (i32 (Int.tmod (i32 (x1 - k25)) (s.2 6 2))))) (sS (sA (sA s 11 f11) 12 f12) 25 k25)))) ∧ ((x2 = 6 → (s.2 6 2) ≠ 0 ∧ (Q (some (vI (i32 (Int.tmod (i32 (x1 + k25)) (s.2 6 2))))) (sS (sA (sA s 11 f11) 12 f12) 25 k25))) ∧ ((x2 = 7 → (tOK (s.2 6) ∧ 0 ≤ x1 ∧ x1 ≤ 100000 ∧ ((2 : Int) = 1 ∨ (2 : Int) = 2 ∨ (2 : Int) = 3)) ∧ ((s.2 6 2) ≠ 0 ∧ (Q (some (vI (i32 (Int.tmod (psum ((2 : Int)).toNat (dig ((s.2 6) 0) ((s.2 6) 1) x1) ((s.2 6) 1).toNat) (s.2 6 2))))) (sS (sA (sA s 11 (figs ((s.2 6) 0) ((s.2 6) 1) x1 f11)) 12 f12) 25 k25)))) ∧ ((x2 = 8 → (tOK (s.2 6) ∧ 0 ≤ x1 ∧ x1 ≤ 100000 ∧ ((3 : Int) = 1 ∨ (3 : Int) = 2 ∨ (3 : Int) = 3)) ∧ ((s.2 6 2) ≠ 0 ∧ (Q (some (vI (i32 (Int.tmod (psum ((3 : Int)).toNat (dig ((s.2 6) 0) ((s.2 6) 1) x1) ((s.2 6) 1).toNat) (s.2 6 2))))) (sS (sA (sA s 11 (figs ((s.2 6) 0) ((s.2 6) 1) x1 f11)) 12 f12) 25 k25)))) ∧ ((x2 = 9 → (tOK (s.2 6) ∧ 0 ≤ x1 ∧ x1 ≤ 100000 ∧ ((1 : Int) = 1 ∨ (1 : Int) = 2 ∨ (1 : Int) = 3)) ∧ ((s.2 6 2) ≠ 0 ∧ (Q (some (vI (i32 (Int.tmod (psum ((1 : Int)).toNat (dig ((s.2 6) 0) ((s.2 6) 1) x1) ((s.2 6) 1).toNat) (s.2 6 2))))) (sS (sA (sA s 11 (figs ((s.2 6) 0) ((s.2 6) 1) x1 f11)) 12 f12) 25 k25)))) ∧ ((x2 = 10 → (¬ (i32 (Int.tmod x1 2)) = 0 → (s.2 6 2) ≠ 0 ∧ (Q (some (vI (i32 (Int.tmod x1 (s.2 6 2))))) (sS (sA (sA s 11 f11) 12 f12) 25 k25))) ∧ ((i32 (Int.tmod x1 2)) = 0 → (s.2 6 2) ≠ 0 ∧ (Q (some (vI (i32 (Int.tmod (i32 (Int.tdiv x1 2)) (s.2 6 2))))) (sS (sA (sA s 11 f11) 12 f12) 25 k25)))) ∧ ((x2 = 11 → (tOK (s.2 6) ∧ 0 ≤ x1 ∧ x1 ≤ 100000) ∧ ((s.2 6 2) ≠ 0 ∧ (Q (some (vI (i32 (Int.tmod (rot ((s.2 6) 0) ((s.2 6) 1) x1) (s.2 6 2))))) (sS (sA (sA s 11 (figs ((s.2 6) 0) ((s.2 6) 1) x1 f11)) 12 f12) 25 k25)))) ∧ ((x2 = 12 → (s.2 6 2) ≠ 0 ∧ (Q (some (vI (i32 (Int.tmod (i32 (x1 * x3)) (s.2 6 2))))) (sS (sA (sA s 11 f11) 12 f12) 25 k25))) ∧ ((x2 = 13 → (s.2 6 2) ≠ 0 ∧ (Q (some (vI (i32 (Int.tmod (i32 (x1 + x3)) (s.2 6 2))))) (sS (sA (sA s 11 f11) 12 f12) 25 k25))) ∧ ((x2 < 0 ∨ 13 < x2 → (tOK (s.2 6) ∧ 0 ≤ x1 ∧ x1 ≤ 100000) ∧ ((s.2 6 2) ≠ 0 ∧ (Q (some (vI (i32 (Int.tmod (lof ((s.2 6) 0) x3 (dig ((s.2 6) 0) ((s.2 6) 1) x1) ((s.2 6) 1).toNat) (s.2 6 2))))) (sS (sA (sA s 11 (figs ((s.2 6) 0) ((s.2 6) 1) x1 f11)) 12 f12) 25 k25))))))))))))))))))) : HX3_does_0 Q b s x1 x2 x3 f11 f12 k25 := by
  refine JW.iload_n dX3_does_0 rfl ?_
  refine JW.istore (ls' := [(0, vR 351), (1, vI x1), (2, vI x2), (3, vI x3), (4, vI x1)]) dX3_does_1 (Nat.le_of_ble_eq_true rfl) rfl ?_
  refine JW.iload_n dX3_does_3 rfl ?_
  by_cases c_1 : x2 = 0
  · have K := K.1 c_1
    refine JW.tableIn (off := 72) (tgt := 76) dX3_does_4 (by omega) (by omega) (by rw [c_1]; rfl) rfl ?_
    refine JW.aload_n dX3_does_76 rfl ?_
    refine JW.iload_n dX3_does_77 rfl ?_
    obtain ⟨o_2, K⟩ := K
    refine JW.mcall (As := [vI x1]) dX3_does_78 vX3_down rfl q1826 (ctX3_down b (sS (sA (sA s 11 f11) 12 f12) 25 k25) x1 o_2) (Nat.le_of_ble_eq_true rfl) rfl (Nat.le_of_ble_eq_true rfl) ?_
    rintro _ _ ⟨f_3, rfl, rfl⟩
    refine JW.steq (s2 := sS (sA (sA s 11 (figs ((s.2 6) 0) ((s.2 6) 1) x1 f11)) 12 f_3) 25 k25) (by simp only [sA_A, sS_S, sA_S, sA_lt, sS_lt, Nat.reduceLT, id_eq] <;> rfl) ?_
    replace K := K f_3
    refine JW.istore (ls' := [(0, vR 351), (1, vI x1), (2, vI x2), (3, vI x3), (4, vI (dnv ((s.2 6) 0) ((s.2 6) 1) x1))]) dX3_does_81 (Nat.le_of_ble_eq_true rfl) rfl ?_
    refine JW.goto (tgt := 247) dX3_does_83 rfl ?_
    refine JW.iload dX3_does_247 rfl ?_
    refine JW.aload_n dX3_does_249 rfl ?_
    refine JW.mget (v := vR 358) dX3_does_250 fX3_34 rfl ?_
    refine JW.iconst dX3_does_253 rfl ?_
    refine JW.mald 6 (x := (s.2 6 2)) dX3_does_254 (Nat.le_of_ble_eq_true rfl) rfl (by decide) (by decide) rfl ?_
    obtain ⟨o_5, K⟩ := K
    refine JW.irem dX3_does_255 o_5 ?_
    exact JW.ireturn dX3_does_256 rfl rfl ⟨_, rfl, K⟩
  replace K := K.2
  by_cases c_6 : x2 = 1
  · have K := K.1 c_6
    refine JW.tableIn (off := 82) (tgt := 86) dX3_does_4 (by omega) (by omega) (by rw [c_6]; rfl) rfl ?_
    refine JW.aload_n dX3_does_86 rfl ?_
    refine JW.iload_n dX3_does_87 rfl ?_
    obtain ⟨o_7, K⟩ := K
    refine JW.mcall (As := [vI x1]) dX3_does_88 vX3_up rfl q1834 (ctX3_up b (sS (sA (sA s 11 f11) 12 f12) 25 k25) x1 o_7) (Nat.le_of_ble_eq_true rfl) rfl (Nat.le_of_ble_eq_true rfl) ?_
    rintro _ _ ⟨f_8, rfl, rfl⟩
    refine JW.steq (s2 := sS (sA (sA s 11 (figs ((s.2 6) 0) ((s.2 6) 1) x1 f11)) 12 f_8) 25 k25) (by simp only [sA_A, sS_S, sA_S, sA_lt, sS_lt, Nat.reduceLT, id_eq] <;> rfl) ?_
    replace K := K f_8
    refine JW.istore (ls' := [(0, vR 351), (1, vI x1), (2, vI x2), (3, vI x3), (4, vI (upv ((s.2 6) 0) ((s.2 6) 1) x1))]) dX3_does_91 (Nat.le_of_ble_eq_true rfl) rfl ?_
    refine JW.goto (tgt := 247) dX3_does_93 rfl ?_
    refine JW.iload dX3_does_247 rfl ?_
    refine JW.aload_n dX3_does_249 rfl ?_
    refine JW.mget (v := vR 358) dX3_does_250 fX3_34 rfl ?_
    refine JW.iconst dX3_does_253 rfl ?_
    refine JW.mald 6 (x := (s.2 6 2)) dX3_does_254 (Nat.le_of_ble_eq_true rfl) rfl (by decide) (by decide) rfl ?_
    obtain ⟨o_10, K⟩ := K
    refine JW.irem dX3_does_255 o_10 ?_
    exact JW.ireturn dX3_does_256 rfl rfl ⟨_, rfl, K⟩
  replace K := K.2
  by_cases c_11 : x2 = 2
  · have K := K.1 c_11
    refine JW.tableIn (off := 92) (tgt := 96) dX3_does_4 (by omega) (by omega) (by rw [c_11]; rfl) rfl ?_
    refine JW.aload_n dX3_does_96 rfl ?_
    refine JW.iload_n dX3_does_97 rfl ?_
    obtain ⟨o_12, K⟩ := K
    refine JW.mcall (As := [vI x1]) dX3_does_98 vX3_turned rfl q1838 (ctX3_turned b (sS (sA (sA s 11 f11) 12 f12) 25 k25) x1 o_12) (Nat.le_of_ble_eq_true rfl) rfl (Nat.le_of_ble_eq_true rfl) ?_
    rintro _ _ ⟨rfl, rfl⟩
    refine JW.steq (s2 := sS (sA (sA s 11 (figs ((s.2 6) 0) ((s.2 6) 1) x1 f11)) 12 f12) 25 k25) (by simp only [sA_A, sS_S, sA_S, sA_lt, sS_lt, Nat.reduceLT, id_eq] <;> rfl) ?_
    refine JW.istore (ls' := [(0, vR 351), (1, vI x1), (2, vI x2), (3, vI x3), (4, vI (trn ((s.2 6) 0) ((s.2 6) 1) x1))]) dX3_does_101 (Nat.le_of_ble_eq_true rfl) rfl ?_
    refine JW.goto (tgt := 247) dX3_does_103 rfl ?_
    refine JW.iload dX3_does_247 rfl ?_
    refine JW.aload_n dX3_does_249 rfl ?_
    refine JW.mget (v := vR 358) dX3_does_250 fX3_34 rfl ?_
    refine JW.iconst dX3_does_253 rfl ?_
    refine JW.mald 6 (x := (s.2 6 2)) dX3_does_254 (Nat.le_of_ble_eq_true rfl) rfl (by decide) (by decide) rfl ?_
    obtain ⟨o_14, K⟩ := K
    refine JW.irem dX3_does_255 o_14 ?_
    exact JW.ireturn dX3_does_256 rfl rfl ⟨_, rfl, K⟩
  replace K := K.2
  by_cases c_15 : x2 = 3
  · have K := K.1 c_15
    refine JW.tableIn (off := 102) (tgt := 106) dX3_does_4 (by omega) (by omega) (by rw [c_15]; rfl) rfl ?_
    refine JW.aload_n dX3_does_106 rfl ?_
    refine JW.iload_n dX3_does_107 rfl ?_
    refine JW.mputI dX3_does_108 (pX3_274 _) rfl ?_
    refine JW.steq (s2 := sS (sA (sA s 11 f11) 12 f12) 25 x1) (by simp only [sA_A, sS_S, sA_S, sA_lt, sS_lt, Nat.reduceLT, id_eq] <;> rfl) ?_
    refine JW.goto (tgt := 247) dX3_does_111 rfl ?_
    refine JW.iload dX3_does_247 rfl ?_
    refine JW.aload_n dX3_does_249 rfl ?_
    refine JW.mget (v := vR 358) dX3_does_250 fX3_34 rfl ?_
    refine JW.iconst dX3_does_253 rfl ?_
    refine JW.mald 6 (x := (s.2 6 2)) dX3_does_254 (Nat.le_of_ble_eq_true rfl) rfl (by decide) (by decide) rfl ?_
    obtain ⟨o_16, K⟩ := K
    refine JW.irem dX3_does_255 o_16 ?_
    exact JW.ireturn dX3_does_256 rfl rfl ⟨_, rfl, K⟩
  replace K := K.2
  by_cases c_17 : x2 = 4
  · have K := K.1 c_17
    refine JW.tableIn (off := 110) (tgt := 114) dX3_does_4 (by omega) (by omega) (by rw [c_17]; rfl) rfl ?_
    refine JW.aload_n dX3_does_114 rfl ?_
    refine JW.mget (v := vI k25) dX3_does_115 fX3_274 rfl ?_
    refine JW.istore (ls' := [(0, vR 351), (1, vI x1), (2, vI x2), (3, vI x3), (4, vI k25)]) dX3_does_118 (Nat.le_of_ble_eq_true rfl) rfl ?_
    refine JW.goto (tgt := 247) dX3_does_120 rfl ?_
    refine JW.iload dX3_does_247 rfl ?_
    refine JW.aload_n dX3_does_249 rfl ?_
    refine JW.mget (v := vR 358) dX3_does_250 fX3_34 rfl ?_
    refine JW.iconst dX3_does_253 rfl ?_
    refine JW.mald 6 (x := (s.2 6 2)) dX3_does_254 (Nat.le_of_ble_eq_true rfl) rfl (by decide) (by decide) rfl ?_
    obtain ⟨o_18, K⟩ := K
    refine JW.irem dX3_does_255 o_18 ?_
    exact JW.ireturn dX3_does_256 rfl rfl ⟨_, rfl, K⟩
  replace K := K.2
  by_cases c_19 : x2 = 5
  · have K := K.1 c_19
    refine JW.tableIn (off := 119) (tgt := 123) dX3_does_4 (by omega) (by omega) (by rw [c_19]; rfl) rfl ?_
    refine JW.iload_n dX3_does_123 rfl ?_
    refine JW.aload_n dX3_does_124 rfl ?_
    refine JW.mget (v := vI k25) dX3_does_125 fX3_274 rfl ?_
    refine JW.icmp_le (tgt := 140) dX3_does_128 rfl (fun c_20 => ?_) (fun c_20 => ?_)
    · have K := K.1 c_20
      refine JW.aload_n dX3_does_140 rfl ?_
      refine JW.mget (v := vI k25) dX3_does_141 fX3_274 rfl ?_
      refine JW.iload_n dX3_does_144 rfl ?_
      refine JW.isub dX3_does_145 ?_
      refine JW.istore (ls' := [(0, vR 351), (1, vI x1), (2, vI x2), (3, vI x3), (4, vI (i32 (k25 - x1)))]) dX3_does_146 (Nat.le_of_ble_eq_true rfl) rfl ?_
      refine JW.goto (tgt := 247) dX3_does_148 rfl ?_
      refine JW.iload dX3_does_247 rfl ?_
      refine JW.aload_n dX3_does_249 rfl ?_
      refine JW.mget (v := vR 358) dX3_does_250 fX3_34 rfl ?_
      refine JW.iconst dX3_does_253 rfl ?_
      refine JW.mald 6 (x := (s.2 6 2)) dX3_does_254 (Nat.le_of_ble_eq_true rfl) rfl (by decide) (by decide) rfl ?_
      obtain ⟨o_21, K⟩ := K
      refine JW.irem dX3_does_255 o_21 ?_
      exact JW.ireturn dX3_does_256 rfl rfl ⟨_, rfl, K⟩
    · have K := K.2 c_20
      refine JW.iload_n dX3_does_131 rfl ?_
      refine JW.aload_n dX3_does_132 rfl ?_
      refine JW.mget (v := vI k25) dX3_does_133 fX3_274 rfl ?_
      refine JW.isub dX3_does_136 ?_
      refine JW.goto (tgt := 146) dX3_does_137 rfl ?_
      refine JW.istore (ls' := [(0, vR 351), (1, vI x1), (2, vI x2), (3, vI x3), (4, vI (i32 (x1 - k25)))]) dX3_does_146 (Nat.le_of_ble_eq_true rfl) rfl ?_
      refine JW.goto (tgt := 247) dX3_does_148 rfl ?_
      refine JW.iload dX3_does_247 rfl ?_
      refine JW.aload_n dX3_does_249 rfl ?_
      refine JW.mget (v := vR 358) dX3_does_250 fX3_34 rfl ?_
      refine JW.iconst dX3_does_253 rfl ?_
      refine JW.mald 6 (x := (s.2 6 2)) dX3_does_254 (Nat.le_of_ble_eq_true rfl) rfl (by decide) (by decide) rfl ?_
      obtain ⟨o_22, K⟩ := K
      refine JW.irem dX3_does_255 o_22 ?_
      exact JW.ireturn dX3_does_256 rfl rfl ⟨_, rfl, K⟩
  replace K := K.2
  by_cases c_23 : x2 = 6
  · have K := K.1 c_23
    refine JW.tableIn (off := 147) (tgt := 151) dX3_does_4 (by omega) (by omega) (by rw [c_23]; rfl) rfl ?_
    refine JW.iload_n dX3_does_151 rfl ?_
    refine JW.aload_n dX3_does_152 rfl ?_
    refine JW.mget (v := vI k25) dX3_does_153 fX3_274 rfl ?_
    refine JW.iadd dX3_does_156 ?_
    refine JW.istore (ls' := [(0, vR 351), (1, vI x1), (2, vI x2), (3, vI x3), (4, vI (i32 (x1 + k25)))]) dX3_does_157 (Nat.le_of_ble_eq_true rfl) rfl ?_
    refine JW.goto (tgt := 247) dX3_does_159 rfl ?_
    refine JW.iload dX3_does_247 rfl ?_
    refine JW.aload_n dX3_does_249 rfl ?_
    refine JW.mget (v := vR 358) dX3_does_250 fX3_34 rfl ?_
    refine JW.iconst dX3_does_253 rfl ?_
    refine JW.mald 6 (x := (s.2 6 2)) dX3_does_254 (Nat.le_of_ble_eq_true rfl) rfl (by decide) (by decide) rfl ?_
    obtain ⟨o_24, K⟩ := K
    refine JW.irem dX3_does_255 o_24 ?_
    exact JW.ireturn dX3_does_256 rfl rfl ⟨_, rfl, K⟩
  replace K := K.2
  by_cases c_25 : x2 = 7
  · have K := K.1 c_25
    refine JW.tableIn (off := 158) (tgt := 162) dX3_does_4 (by omega) (by omega) (by rw [c_25]; rfl) rfl ?_
    refine JW.aload_n dX3_does_162 rfl ?_
    refine JW.iload_n dX3_does_163 rfl ?_
    refine JW.iconst dX3_does_164 rfl ?_
    obtain ⟨o_26, K⟩ := K
    refine JW.mcall (As := [vI x1, vI 2]) dX3_does_165 vX3_powers rfl q1842 (ctX3_powers b (sS (sA (sA s 11 f11) 12 f12) 25 k25) x1 2 o_26) (Nat.le_of_ble_eq_true rfl) rfl (Nat.le_of_ble_eq_true rfl) ?_
    rintro _ _ ⟨rfl, rfl⟩
    refine JW.steq (s2 := sS (sA (sA s 11 (figs ((s.2 6) 0) ((s.2 6) 1) x1 f11)) 12 f12) 25 k25) (by simp only [sA_A, sS_S, sA_S, sA_lt, sS_lt, Nat.reduceLT, id_eq] <;> rfl) ?_
    refine JW.istore (ls' := [(0, vR 351), (1, vI x1), (2, vI x2), (3, vI x3), (4, vI (psum ((2 : Int)).toNat (dig ((s.2 6) 0) ((s.2 6) 1) x1) ((s.2 6) 1).toNat))]) dX3_does_168 (Nat.le_of_ble_eq_true rfl) rfl ?_
    refine JW.goto (tgt := 247) dX3_does_170 rfl ?_
    refine JW.iload dX3_does_247 rfl ?_
    refine JW.aload_n dX3_does_249 rfl ?_
    refine JW.mget (v := vR 358) dX3_does_250 fX3_34 rfl ?_
    refine JW.iconst dX3_does_253 rfl ?_
    refine JW.mald 6 (x := (s.2 6 2)) dX3_does_254 (Nat.le_of_ble_eq_true rfl) rfl (by decide) (by decide) rfl ?_
    obtain ⟨o_28, K⟩ := K
    refine JW.irem dX3_does_255 o_28 ?_
    exact JW.ireturn dX3_does_256 rfl rfl ⟨_, rfl, K⟩
  replace K := K.2
  by_cases c_29 : x2 = 8
  · have K := K.1 c_29
    refine JW.tableIn (off := 169) (tgt := 173) dX3_does_4 (by omega) (by omega) (by rw [c_29]; rfl) rfl ?_
    refine JW.aload_n dX3_does_173 rfl ?_
    refine JW.iload_n dX3_does_174 rfl ?_
    refine JW.iconst dX3_does_175 rfl ?_
    obtain ⟨o_30, K⟩ := K
    refine JW.mcall (As := [vI x1, vI 3]) dX3_does_176 vX3_powers rfl q1842 (ctX3_powers b (sS (sA (sA s 11 f11) 12 f12) 25 k25) x1 3 o_30) (Nat.le_of_ble_eq_true rfl) rfl (Nat.le_of_ble_eq_true rfl) ?_
    rintro _ _ ⟨rfl, rfl⟩
    refine JW.steq (s2 := sS (sA (sA s 11 (figs ((s.2 6) 0) ((s.2 6) 1) x1 f11)) 12 f12) 25 k25) (by simp only [sA_A, sS_S, sA_S, sA_lt, sS_lt, Nat.reduceLT, id_eq] <;> rfl) ?_
    refine JW.istore (ls' := [(0, vR 351), (1, vI x1), (2, vI x2), (3, vI x3), (4, vI (psum ((3 : Int)).toNat (dig ((s.2 6) 0) ((s.2 6) 1) x1) ((s.2 6) 1).toNat))]) dX3_does_179 (Nat.le_of_ble_eq_true rfl) rfl ?_
    refine JW.goto (tgt := 247) dX3_does_181 rfl ?_
    refine JW.iload dX3_does_247 rfl ?_
    refine JW.aload_n dX3_does_249 rfl ?_
    refine JW.mget (v := vR 358) dX3_does_250 fX3_34 rfl ?_
    refine JW.iconst dX3_does_253 rfl ?_
    refine JW.mald 6 (x := (s.2 6 2)) dX3_does_254 (Nat.le_of_ble_eq_true rfl) rfl (by decide) (by decide) rfl ?_
    obtain ⟨o_32, K⟩ := K
    refine JW.irem dX3_does_255 o_32 ?_
    exact JW.ireturn dX3_does_256 rfl rfl ⟨_, rfl, K⟩
  replace K := K.2
  by_cases c_33 : x2 = 9
  · have K := K.1 c_33
    refine JW.tableIn (off := 180) (tgt := 184) dX3_does_4 (by omega) (by omega) (by rw [c_33]; rfl) rfl ?_
    refine JW.aload_n dX3_does_184 rfl ?_
    refine JW.iload_n dX3_does_185 rfl ?_
    refine JW.iconst dX3_does_186 rfl ?_
    obtain ⟨o_34, K⟩ := K
    refine JW.mcall (As := [vI x1, vI 1]) dX3_does_187 vX3_powers rfl q1842 (ctX3_powers b (sS (sA (sA s 11 f11) 12 f12) 25 k25) x1 1 o_34) (Nat.le_of_ble_eq_true rfl) rfl (Nat.le_of_ble_eq_true rfl) ?_
    rintro _ _ ⟨rfl, rfl⟩
    refine JW.steq (s2 := sS (sA (sA s 11 (figs ((s.2 6) 0) ((s.2 6) 1) x1 f11)) 12 f12) 25 k25) (by simp only [sA_A, sS_S, sA_S, sA_lt, sS_lt, Nat.reduceLT, id_eq] <;> rfl) ?_
    refine JW.istore (ls' := [(0, vR 351), (1, vI x1), (2, vI x2), (3, vI x3), (4, vI (psum ((1 : Int)).toNat (dig ((s.2 6) 0) ((s.2 6) 1) x1) ((s.2 6) 1).toNat))]) dX3_does_190 (Nat.le_of_ble_eq_true rfl) rfl ?_
    refine JW.goto (tgt := 247) dX3_does_192 rfl ?_
    refine JW.iload dX3_does_247 rfl ?_
    refine JW.aload_n dX3_does_249 rfl ?_
    refine JW.mget (v := vR 358) dX3_does_250 fX3_34 rfl ?_
    refine JW.iconst dX3_does_253 rfl ?_
    refine JW.mald 6 (x := (s.2 6 2)) dX3_does_254 (Nat.le_of_ble_eq_true rfl) rfl (by decide) (by decide) rfl ?_
    obtain ⟨o_36, K⟩ := K
    refine JW.irem dX3_does_255 o_36 ?_
    exact JW.ireturn dX3_does_256 rfl rfl ⟨_, rfl, K⟩
  replace K := K.2
  by_cases c_37 : x2 = 10
  · have K := K.1 c_37
    refine JW.tableIn (off := 191) (tgt := 195) dX3_does_4 (by omega) (by omega) (by rw [c_37]; rfl) rfl ?_
    refine JW.iload_n dX3_does_195 rfl ?_
    refine JW.iconst dX3_does_196 rfl ?_
    refine JW.irem dX3_does_197 (by decide) ?_
    refine JW.if_ne (tgt := 207) dX3_does_198 rfl (fun c_38 => ?_) (fun c_38 => ?_)
    · have K := K.1 c_38
      refine JW.iload_n dX3_does_207 rfl ?_
      refine JW.istore (ls' := [(0, vR 351), (1, vI x1), (2, vI x2), (3, vI x3), (4, vI x1)]) dX3_does_208 (Nat.le_of_ble_eq_true rfl) rfl ?_
      refine JW.goto (tgt := 247) dX3_does_210 rfl ?_
      refine JW.iload dX3_does_247 rfl ?_
      refine JW.aload_n dX3_does_249 rfl ?_
      refine JW.mget (v := vR 358) dX3_does_250 fX3_34 rfl ?_
      refine JW.iconst dX3_does_253 rfl ?_
      refine JW.mald 6 (x := (s.2 6 2)) dX3_does_254 (Nat.le_of_ble_eq_true rfl) rfl (by decide) (by decide) rfl ?_
      obtain ⟨o_39, K⟩ := K
      refine JW.irem dX3_does_255 o_39 ?_
      exact JW.ireturn dX3_does_256 rfl rfl ⟨_, rfl, K⟩
    · have K := K.2 c_38
      refine JW.iload_n dX3_does_201 rfl ?_
      refine JW.iconst dX3_does_202 rfl ?_
      refine JW.idiv dX3_does_203 (by decide) ?_
      refine JW.goto (tgt := 208) dX3_does_204 rfl ?_
      refine JW.istore (ls' := [(0, vR 351), (1, vI x1), (2, vI x2), (3, vI x3), (4, vI (i32 (Int.tdiv x1 2)))]) dX3_does_208 (Nat.le_of_ble_eq_true rfl) rfl ?_
      refine JW.goto (tgt := 247) dX3_does_210 rfl ?_
      refine JW.iload dX3_does_247 rfl ?_
      refine JW.aload_n dX3_does_249 rfl ?_
      refine JW.mget (v := vR 358) dX3_does_250 fX3_34 rfl ?_
      refine JW.iconst dX3_does_253 rfl ?_
      refine JW.mald 6 (x := (s.2 6 2)) dX3_does_254 (Nat.le_of_ble_eq_true rfl) rfl (by decide) (by decide) rfl ?_
      obtain ⟨o_40, K⟩ := K
      refine JW.irem dX3_does_255 o_40 ?_
      exact JW.ireturn dX3_does_256 rfl rfl ⟨_, rfl, K⟩
  replace K := K.2
  by_cases c_41 : x2 = 11
  · have K := K.1 c_41
    refine JW.tableIn (off := 209) (tgt := 213) dX3_does_4 (by omega) (by omega) (by rw [c_41]; rfl) rfl ?_
    refine JW.aload_n dX3_does_213 rfl ?_
    refine JW.iload_n dX3_does_214 rfl ?_
    obtain ⟨o_42, K⟩ := K
    refine JW.mcall (As := [vI x1]) dX3_does_215 vX3_moved rfl q1846 (ctX3_moved b (sS (sA (sA s 11 f11) 12 f12) 25 k25) x1 o_42) (Nat.le_of_ble_eq_true rfl) rfl (Nat.le_of_ble_eq_true rfl) ?_
    rintro _ _ ⟨rfl, rfl⟩
    refine JW.steq (s2 := sS (sA (sA s 11 (figs ((s.2 6) 0) ((s.2 6) 1) x1 f11)) 12 f12) 25 k25) (by simp only [sA_A, sS_S, sA_S, sA_lt, sS_lt, Nat.reduceLT, id_eq] <;> rfl) ?_
    refine JW.istore (ls' := [(0, vR 351), (1, vI x1), (2, vI x2), (3, vI x3), (4, vI (rot ((s.2 6) 0) ((s.2 6) 1) x1))]) dX3_does_218 (Nat.le_of_ble_eq_true rfl) rfl ?_
    refine JW.goto (tgt := 247) dX3_does_220 rfl ?_
    refine JW.iload dX3_does_247 rfl ?_
    refine JW.aload_n dX3_does_249 rfl ?_
    refine JW.mget (v := vR 358) dX3_does_250 fX3_34 rfl ?_
    refine JW.iconst dX3_does_253 rfl ?_
    refine JW.mald 6 (x := (s.2 6 2)) dX3_does_254 (Nat.le_of_ble_eq_true rfl) rfl (by decide) (by decide) rfl ?_
    obtain ⟨o_44, K⟩ := K
    refine JW.irem dX3_does_255 o_44 ?_
    exact JW.ireturn dX3_does_256 rfl rfl ⟨_, rfl, K⟩
  replace K := K.2
  by_cases c_45 : x2 = 12
  · have K := K.1 c_45
    refine JW.tableIn (off := 219) (tgt := 223) dX3_does_4 (by omega) (by omega) (by rw [c_45]; rfl) rfl ?_
    refine JW.iload_n dX3_does_223 rfl ?_
    refine JW.iload_n dX3_does_224 rfl ?_
    refine JW.imul dX3_does_225 ?_
    refine JW.istore (ls' := [(0, vR 351), (1, vI x1), (2, vI x2), (3, vI x3), (4, vI (i32 (x1 * x3)))]) dX3_does_226 (Nat.le_of_ble_eq_true rfl) rfl ?_
    refine JW.goto (tgt := 247) dX3_does_228 rfl ?_
    refine JW.iload dX3_does_247 rfl ?_
    refine JW.aload_n dX3_does_249 rfl ?_
    refine JW.mget (v := vR 358) dX3_does_250 fX3_34 rfl ?_
    refine JW.iconst dX3_does_253 rfl ?_
    refine JW.mald 6 (x := (s.2 6 2)) dX3_does_254 (Nat.le_of_ble_eq_true rfl) rfl (by decide) (by decide) rfl ?_
    obtain ⟨o_46, K⟩ := K
    refine JW.irem dX3_does_255 o_46 ?_
    exact JW.ireturn dX3_does_256 rfl rfl ⟨_, rfl, K⟩
  replace K := K.2
  by_cases c_47 : x2 = 13
  · have K := K.1 c_47
    refine JW.tableIn (off := 227) (tgt := 231) dX3_does_4 (by omega) (by omega) (by rw [c_47]; rfl) rfl ?_
    refine JW.iload_n dX3_does_231 rfl ?_
    refine JW.iload_n dX3_does_232 rfl ?_
    refine JW.iadd dX3_does_233 ?_
    refine JW.istore (ls' := [(0, vR 351), (1, vI x1), (2, vI x2), (3, vI x3), (4, vI (i32 (x1 + x3)))]) dX3_does_234 (Nat.le_of_ble_eq_true rfl) rfl ?_
    refine JW.goto (tgt := 247) dX3_does_236 rfl ?_
    refine JW.iload dX3_does_247 rfl ?_
    refine JW.aload_n dX3_does_249 rfl ?_
    refine JW.mget (v := vR 358) dX3_does_250 fX3_34 rfl ?_
    refine JW.iconst dX3_does_253 rfl ?_
    refine JW.mald 6 (x := (s.2 6 2)) dX3_does_254 (Nat.le_of_ble_eq_true rfl) rfl (by decide) (by decide) rfl ?_
    obtain ⟨o_48, K⟩ := K
    refine JW.irem dX3_does_255 o_48 ?_
    exact JW.ireturn dX3_does_256 rfl rfl ⟨_, rfl, K⟩
  replace K := K.2
  have c_49 : x2 < 0 ∨ 13 < x2 := by omega
  replace K := K c_49
  refine JW.tableOut (tgt := 239) dX3_does_4 c_49 rfl ?_
  refine JW.aload_n dX3_does_239 rfl ?_
  refine JW.iload_n dX3_does_240 rfl ?_
  refine JW.iload_n dX3_does_241 rfl ?_
  obtain ⟨o_50, K⟩ := K
  refine JW.mcall (As := [vI x1, vI x3]) dX3_does_242 vX3_leftOut rfl q1850 (ctX3_leftOut b (sS (sA (sA s 11 f11) 12 f12) 25 k25) x1 x3 o_50) (Nat.le_of_ble_eq_true rfl) rfl (Nat.le_of_ble_eq_true rfl) ?_
  rintro _ _ ⟨rfl, rfl⟩
  refine JW.steq (s2 := sS (sA (sA s 11 (figs ((s.2 6) 0) ((s.2 6) 1) x1 f11)) 12 f12) 25 k25) (by simp only [sA_A, sS_S, sA_S, sA_lt, sS_lt, Nat.reduceLT, id_eq] <;> rfl) ?_
  refine JW.istore (ls' := [(0, vR 351), (1, vI x1), (2, vI x2), (3, vI x3), (4, vI (lof ((s.2 6) 0) x3 (dig ((s.2 6) 0) ((s.2 6) 1) x1) ((s.2 6) 1).toNat))]) dX3_does_245 (Nat.le_of_ble_eq_true rfl) rfl ?_
  refine JW.iload dX3_does_247 rfl ?_
  refine JW.aload_n dX3_does_249 rfl ?_
  refine JW.mget (v := vR 358) dX3_does_250 fX3_34 rfl ?_
  refine JW.iconst dX3_does_253 rfl ?_
  refine JW.mald 6 (x := (s.2 6 2)) dX3_does_254 (Nat.le_of_ble_eq_true rfl) rfl (by decide) (by decide) rfl ?_
  obtain ⟨o_52, K⟩ := K
  refine JW.irem dX3_does_255 o_52 ?_
  exact JW.ireturn dX3_does_256 rfl rfl ⟨_, rfl, K⟩
def QX3_does (s : MS) (a1 : Int) (a2 : Int) (a3 : Int) : Option AV → MS → Prop := fun v s' => ∃ (f11 : Int → Int) (f12 : Int → Int), v = some (vI (wdo (s.2 6) (s.1 25) a1 a2 a3)) ∧ s' = sS (sA (sA s 11 f11) 12 f12) 25 (wkp (s.1 25) a1 a2)
theorem vX3_does_1 (s : MS) (a1 : Int) (a2 : Int) (a3 : Int) (hp : tOK (s.2 6) ∧ 0 ≤ a1 ∧ a1 < (s.2 6) 2 ∧ (0 ≤ (s.1 25) ∧ (s.1 25) < (s.2 6) 2) ∧ wOK ((s.2 6) 0) a2 a3) (c_1 : a2 = 0) : (tOK (s.2 6) ∧ 0 ≤ a1 ∧ a1 ≤ 100000) := by
  obtain ⟨ht, h0, h1, hk, hw, hn⟩ := hp
  have hN := tOK_N ht
  have b0 := dnv_b (x := a1) ht
  have b1 := upv_b (x := a1) ht
  have b2 := trn_b (x := a1) ht
  have b7 := psd_b (x := a1) (p := 2) ht (by omega)
  have b8 := psd_b (x := a1) (p := 3) ht (by omega)
  have b9 := psd_b (x := a1) (p := 1) ht (by omega)
  have b11 := rot_b (x := a1) ht
  have b14 := lod_b (x := a1) (d := a3) ht
  (try have e14 : a2 = 14 := by omega)
  (try subst a2)
  first
    | omega
    | (refine ⟨ht, by omega, by omega⟩)
    | (refine ⟨ht, by omega, by omega, by omega⟩)
    | (unfold wkp; first | rw [if_pos (by omega)] | rw [if_neg (by omega)])
    | (rw [i32_tm2 (by omega) (by omega) (by omega)]; first | rfl | rw [wdo_5, if_pos (by omega)] | rw [wdo_5, if_neg (by omega)])
    | (have hm := i32_mul (x := a1) (n := a3) h0 (by omega) (by omega) (by omega); rw [i32_tm2 hm.2.1 hm.2.2 (by omega)]; rfl)
    | (rw [i32_tm (by omega) (by omega) (by omega)]; rfl)
    | (exact i32_tm b7.1 (Int.lt_of_le_of_lt b7.2 (by decide)) (by omega))
    | (exact i32_tm b8.1 (Int.lt_of_le_of_lt b8.2 (by decide)) (by omega))
    | (exact i32_tm b9.1 (Int.lt_of_le_of_lt b9.2 (by decide)) (by omega))
    | (subst e14; rw [i32_tm (by omega) (by omega) (by omega)]; rfl)
    | (rw [tdiv_n h0, i32_tm2 (by omega) (by omega) (by omega), wdo_10, if_pos (by rw [i32_hv h0] at *; omega)])
    | (rw [i32_tm (by omega) (by omega) (by omega), wdo_10, if_neg (by rw [i32_hv h0] at *; omega)])
theorem vX3_does_2 (s : MS) (a1 : Int) (a2 : Int) (a3 : Int) (hp : tOK (s.2 6) ∧ 0 ≤ a1 ∧ a1 < (s.2 6) 2 ∧ (0 ≤ (s.1 25) ∧ (s.1 25) < (s.2 6) 2) ∧ wOK ((s.2 6) 0) a2 a3) (c_1 : a2 = 0) (o_2 : (tOK (s.2 6) ∧ 0 ≤ a1 ∧ a1 ≤ 100000)) (f_3 : Int → Int) : (s.2 6 2) ≠ 0 := by
  obtain ⟨ht, h0, h1, hk, hw, hn⟩ := hp
  have hN := tOK_N ht
  have b0 := dnv_b (x := a1) ht
  have b1 := upv_b (x := a1) ht
  have b2 := trn_b (x := a1) ht
  have b7 := psd_b (x := a1) (p := 2) ht (by omega)
  have b8 := psd_b (x := a1) (p := 3) ht (by omega)
  have b9 := psd_b (x := a1) (p := 1) ht (by omega)
  have b11 := rot_b (x := a1) ht
  have b14 := lod_b (x := a1) (d := a3) ht
  (try have e14 : a2 = 14 := by omega)
  (try subst a2)
  first
    | omega
    | (refine ⟨ht, by omega, by omega⟩)
    | (refine ⟨ht, by omega, by omega, by omega⟩)
    | (unfold wkp; first | rw [if_pos (by omega)] | rw [if_neg (by omega)])
    | (rw [i32_tm2 (by omega) (by omega) (by omega)]; first | rfl | rw [wdo_5, if_pos (by omega)] | rw [wdo_5, if_neg (by omega)])
    | (have hm := i32_mul (x := a1) (n := a3) h0 (by omega) (by omega) (by omega); rw [i32_tm2 hm.2.1 hm.2.2 (by omega)]; rfl)
    | (rw [i32_tm (by omega) (by omega) (by omega)]; rfl)
    | (exact i32_tm b7.1 (Int.lt_of_le_of_lt b7.2 (by decide)) (by omega))
    | (exact i32_tm b8.1 (Int.lt_of_le_of_lt b8.2 (by decide)) (by omega))
    | (exact i32_tm b9.1 (Int.lt_of_le_of_lt b9.2 (by decide)) (by omega))
    | (subst e14; rw [i32_tm (by omega) (by omega) (by omega)]; rfl)
    | (rw [tdiv_n h0, i32_tm2 (by omega) (by omega) (by omega), wdo_10, if_pos (by rw [i32_hv h0] at *; omega)])
    | (rw [i32_tm (by omega) (by omega) (by omega), wdo_10, if_neg (by rw [i32_hv h0] at *; omega)])
theorem vX3_does_3 (s : MS) (a1 : Int) (a2 : Int) (a3 : Int) (hp : tOK (s.2 6) ∧ 0 ≤ a1 ∧ a1 < (s.2 6) 2 ∧ (0 ≤ (s.1 25) ∧ (s.1 25) < (s.2 6) 2) ∧ wOK ((s.2 6) 0) a2 a3) (c_1 : a2 = 0) (o_2 : (tOK (s.2 6) ∧ 0 ≤ a1 ∧ a1 ≤ 100000)) (f_3 : Int → Int) (o_5 : (s.2 6 2) ≠ 0) : (s.1 25) = (wkp (s.1 25) a1 a2) := by
  obtain ⟨ht, h0, h1, hk, hw, hn⟩ := hp
  have hN := tOK_N ht
  have b0 := dnv_b (x := a1) ht
  have b1 := upv_b (x := a1) ht
  have b2 := trn_b (x := a1) ht
  have b7 := psd_b (x := a1) (p := 2) ht (by omega)
  have b8 := psd_b (x := a1) (p := 3) ht (by omega)
  have b9 := psd_b (x := a1) (p := 1) ht (by omega)
  have b11 := rot_b (x := a1) ht
  have b14 := lod_b (x := a1) (d := a3) ht
  (try have e14 : a2 = 14 := by omega)
  (try subst a2)
  first
    | omega
    | (refine ⟨ht, by omega, by omega⟩)
    | (refine ⟨ht, by omega, by omega, by omega⟩)
    | (unfold wkp; first | rw [if_pos (by omega)] | rw [if_neg (by omega)])
    | (rw [i32_tm2 (by omega) (by omega) (by omega)]; first | rfl | rw [wdo_5, if_pos (by omega)] | rw [wdo_5, if_neg (by omega)])
    | (have hm := i32_mul (x := a1) (n := a3) h0 (by omega) (by omega) (by omega); rw [i32_tm2 hm.2.1 hm.2.2 (by omega)]; rfl)
    | (rw [i32_tm (by omega) (by omega) (by omega)]; rfl)
    | (exact i32_tm b7.1 (Int.lt_of_le_of_lt b7.2 (by decide)) (by omega))
    | (exact i32_tm b8.1 (Int.lt_of_le_of_lt b8.2 (by decide)) (by omega))
    | (exact i32_tm b9.1 (Int.lt_of_le_of_lt b9.2 (by decide)) (by omega))
    | (subst e14; rw [i32_tm (by omega) (by omega) (by omega)]; rfl)
    | (rw [tdiv_n h0, i32_tm2 (by omega) (by omega) (by omega), wdo_10, if_pos (by rw [i32_hv h0] at *; omega)])
    | (rw [i32_tm (by omega) (by omega) (by omega), wdo_10, if_neg (by rw [i32_hv h0] at *; omega)])
theorem vX3_does_4 (s : MS) (a1 : Int) (a2 : Int) (a3 : Int) (hp : tOK (s.2 6) ∧ 0 ≤ a1 ∧ a1 < (s.2 6) 2 ∧ (0 ≤ (s.1 25) ∧ (s.1 25) < (s.2 6) 2) ∧ wOK ((s.2 6) 0) a2 a3) (c_1 : a2 = 0) (o_2 : (tOK (s.2 6) ∧ 0 ≤ a1 ∧ a1 ≤ 100000)) (f_3 : Int → Int) (o_5 : (s.2 6 2) ≠ 0) : (i32 (Int.tmod (dnv ((s.2 6) 0) ((s.2 6) 1) a1) (s.2 6 2))) = (wdo (s.2 6) (s.1 25) a1 a2 a3) := by
  obtain ⟨ht, h0, h1, hk, hw, hn⟩ := hp
  have hN := tOK_N ht
  have b0 := dnv_b (x := a1) ht
  have b1 := upv_b (x := a1) ht
  have b2 := trn_b (x := a1) ht
  have b7 := psd_b (x := a1) (p := 2) ht (by omega)
  have b8 := psd_b (x := a1) (p := 3) ht (by omega)
  have b9 := psd_b (x := a1) (p := 1) ht (by omega)
  have b11 := rot_b (x := a1) ht
  have b14 := lod_b (x := a1) (d := a3) ht
  (try have e14 : a2 = 14 := by omega)
  (try subst a2)
  first
    | omega
    | (refine ⟨ht, by omega, by omega⟩)
    | (refine ⟨ht, by omega, by omega, by omega⟩)
    | (unfold wkp; first | rw [if_pos (by omega)] | rw [if_neg (by omega)])
    | (rw [i32_tm2 (by omega) (by omega) (by omega)]; first | rfl | rw [wdo_5, if_pos (by omega)] | rw [wdo_5, if_neg (by omega)])
    | (have hm := i32_mul (x := a1) (n := a3) h0 (by omega) (by omega) (by omega); rw [i32_tm2 hm.2.1 hm.2.2 (by omega)]; rfl)
    | (rw [i32_tm (by omega) (by omega) (by omega)]; rfl)
    | (exact i32_tm b7.1 (Int.lt_of_le_of_lt b7.2 (by decide)) (by omega))
    | (exact i32_tm b8.1 (Int.lt_of_le_of_lt b8.2 (by decide)) (by omega))
    | (exact i32_tm b9.1 (Int.lt_of_le_of_lt b9.2 (by decide)) (by omega))
    | (subst e14; rw [i32_tm (by omega) (by omega) (by omega)]; rfl)
    | (rw [tdiv_n h0, i32_tm2 (by omega) (by omega) (by omega), wdo_10, if_pos (by rw [i32_hv h0] at *; omega)])
    | (rw [i32_tm (by omega) (by omega) (by omega), wdo_10, if_neg (by rw [i32_hv h0] at *; omega)])
theorem vX3_does_5 (s : MS) (a1 : Int) (a2 : Int) (a3 : Int) (hp : tOK (s.2 6) ∧ 0 ≤ a1 ∧ a1 < (s.2 6) 2 ∧ (0 ≤ (s.1 25) ∧ (s.1 25) < (s.2 6) 2) ∧ wOK ((s.2 6) 0) a2 a3) (c_6 : a2 = 1) : (tOK (s.2 6) ∧ 0 ≤ a1 ∧ a1 ≤ 100000) := by
  obtain ⟨ht, h0, h1, hk, hw, hn⟩ := hp
  have hN := tOK_N ht
  have b0 := dnv_b (x := a1) ht
  have b1 := upv_b (x := a1) ht
  have b2 := trn_b (x := a1) ht
  have b7 := psd_b (x := a1) (p := 2) ht (by omega)
  have b8 := psd_b (x := a1) (p := 3) ht (by omega)
  have b9 := psd_b (x := a1) (p := 1) ht (by omega)
  have b11 := rot_b (x := a1) ht
  have b14 := lod_b (x := a1) (d := a3) ht
  (try have e14 : a2 = 14 := by omega)
  (try subst a2)
  first
    | omega
    | (refine ⟨ht, by omega, by omega⟩)
    | (refine ⟨ht, by omega, by omega, by omega⟩)
    | (unfold wkp; first | rw [if_pos (by omega)] | rw [if_neg (by omega)])
    | (rw [i32_tm2 (by omega) (by omega) (by omega)]; first | rfl | rw [wdo_5, if_pos (by omega)] | rw [wdo_5, if_neg (by omega)])
    | (have hm := i32_mul (x := a1) (n := a3) h0 (by omega) (by omega) (by omega); rw [i32_tm2 hm.2.1 hm.2.2 (by omega)]; rfl)
    | (rw [i32_tm (by omega) (by omega) (by omega)]; rfl)
    | (exact i32_tm b7.1 (Int.lt_of_le_of_lt b7.2 (by decide)) (by omega))
    | (exact i32_tm b8.1 (Int.lt_of_le_of_lt b8.2 (by decide)) (by omega))
    | (exact i32_tm b9.1 (Int.lt_of_le_of_lt b9.2 (by decide)) (by omega))
    | (subst e14; rw [i32_tm (by omega) (by omega) (by omega)]; rfl)
    | (rw [tdiv_n h0, i32_tm2 (by omega) (by omega) (by omega), wdo_10, if_pos (by rw [i32_hv h0] at *; omega)])
    | (rw [i32_tm (by omega) (by omega) (by omega), wdo_10, if_neg (by rw [i32_hv h0] at *; omega)])
theorem vX3_does_6 (s : MS) (a1 : Int) (a2 : Int) (a3 : Int) (hp : tOK (s.2 6) ∧ 0 ≤ a1 ∧ a1 < (s.2 6) 2 ∧ (0 ≤ (s.1 25) ∧ (s.1 25) < (s.2 6) 2) ∧ wOK ((s.2 6) 0) a2 a3) (c_6 : a2 = 1) (o_7 : (tOK (s.2 6) ∧ 0 ≤ a1 ∧ a1 ≤ 100000)) (f_8 : Int → Int) : (s.2 6 2) ≠ 0 := by
  obtain ⟨ht, h0, h1, hk, hw, hn⟩ := hp
  have hN := tOK_N ht
  have b0 := dnv_b (x := a1) ht
  have b1 := upv_b (x := a1) ht
  have b2 := trn_b (x := a1) ht
  have b7 := psd_b (x := a1) (p := 2) ht (by omega)
  have b8 := psd_b (x := a1) (p := 3) ht (by omega)
  have b9 := psd_b (x := a1) (p := 1) ht (by omega)
  have b11 := rot_b (x := a1) ht
  have b14 := lod_b (x := a1) (d := a3) ht
  (try have e14 : a2 = 14 := by omega)
  (try subst a2)
  first
    | omega
    | (refine ⟨ht, by omega, by omega⟩)
    | (refine ⟨ht, by omega, by omega, by omega⟩)
    | (unfold wkp; first | rw [if_pos (by omega)] | rw [if_neg (by omega)])
    | (rw [i32_tm2 (by omega) (by omega) (by omega)]; first | rfl | rw [wdo_5, if_pos (by omega)] | rw [wdo_5, if_neg (by omega)])
    | (have hm := i32_mul (x := a1) (n := a3) h0 (by omega) (by omega) (by omega); rw [i32_tm2 hm.2.1 hm.2.2 (by omega)]; rfl)
    | (rw [i32_tm (by omega) (by omega) (by omega)]; rfl)
    | (exact i32_tm b7.1 (Int.lt_of_le_of_lt b7.2 (by decide)) (by omega))
    | (exact i32_tm b8.1 (Int.lt_of_le_of_lt b8.2 (by decide)) (by omega))
    | (exact i32_tm b9.1 (Int.lt_of_le_of_lt b9.2 (by decide)) (by omega))
    | (subst e14; rw [i32_tm (by omega) (by omega) (by omega)]; rfl)
    | (rw [tdiv_n h0, i32_tm2 (by omega) (by omega) (by omega), wdo_10, if_pos (by rw [i32_hv h0] at *; omega)])
    | (rw [i32_tm (by omega) (by omega) (by omega), wdo_10, if_neg (by rw [i32_hv h0] at *; omega)])
theorem vX3_does_7 (s : MS) (a1 : Int) (a2 : Int) (a3 : Int) (hp : tOK (s.2 6) ∧ 0 ≤ a1 ∧ a1 < (s.2 6) 2 ∧ (0 ≤ (s.1 25) ∧ (s.1 25) < (s.2 6) 2) ∧ wOK ((s.2 6) 0) a2 a3) (c_6 : a2 = 1) (o_7 : (tOK (s.2 6) ∧ 0 ≤ a1 ∧ a1 ≤ 100000)) (f_8 : Int → Int) (o_10 : (s.2 6 2) ≠ 0) : (s.1 25) = (wkp (s.1 25) a1 a2) := by
  obtain ⟨ht, h0, h1, hk, hw, hn⟩ := hp
  have hN := tOK_N ht
  have b0 := dnv_b (x := a1) ht
  have b1 := upv_b (x := a1) ht
  have b2 := trn_b (x := a1) ht
  have b7 := psd_b (x := a1) (p := 2) ht (by omega)
  have b8 := psd_b (x := a1) (p := 3) ht (by omega)
  have b9 := psd_b (x := a1) (p := 1) ht (by omega)
  have b11 := rot_b (x := a1) ht
  have b14 := lod_b (x := a1) (d := a3) ht
  (try have e14 : a2 = 14 := by omega)
  (try subst a2)
  first
    | omega
    | (refine ⟨ht, by omega, by omega⟩)
    | (refine ⟨ht, by omega, by omega, by omega⟩)
    | (unfold wkp; first | rw [if_pos (by omega)] | rw [if_neg (by omega)])
    | (rw [i32_tm2 (by omega) (by omega) (by omega)]; first | rfl | rw [wdo_5, if_pos (by omega)] | rw [wdo_5, if_neg (by omega)])
    | (have hm := i32_mul (x := a1) (n := a3) h0 (by omega) (by omega) (by omega); rw [i32_tm2 hm.2.1 hm.2.2 (by omega)]; rfl)
    | (rw [i32_tm (by omega) (by omega) (by omega)]; rfl)
    | (exact i32_tm b7.1 (Int.lt_of_le_of_lt b7.2 (by decide)) (by omega))
    | (exact i32_tm b8.1 (Int.lt_of_le_of_lt b8.2 (by decide)) (by omega))
    | (exact i32_tm b9.1 (Int.lt_of_le_of_lt b9.2 (by decide)) (by omega))
    | (subst e14; rw [i32_tm (by omega) (by omega) (by omega)]; rfl)
    | (rw [tdiv_n h0, i32_tm2 (by omega) (by omega) (by omega), wdo_10, if_pos (by rw [i32_hv h0] at *; omega)])
    | (rw [i32_tm (by omega) (by omega) (by omega), wdo_10, if_neg (by rw [i32_hv h0] at *; omega)])
theorem vX3_does_8 (s : MS) (a1 : Int) (a2 : Int) (a3 : Int) (hp : tOK (s.2 6) ∧ 0 ≤ a1 ∧ a1 < (s.2 6) 2 ∧ (0 ≤ (s.1 25) ∧ (s.1 25) < (s.2 6) 2) ∧ wOK ((s.2 6) 0) a2 a3) (c_6 : a2 = 1) (o_7 : (tOK (s.2 6) ∧ 0 ≤ a1 ∧ a1 ≤ 100000)) (f_8 : Int → Int) (o_10 : (s.2 6 2) ≠ 0) : (i32 (Int.tmod (upv ((s.2 6) 0) ((s.2 6) 1) a1) (s.2 6 2))) = (wdo (s.2 6) (s.1 25) a1 a2 a3) := by
  obtain ⟨ht, h0, h1, hk, hw, hn⟩ := hp
  have hN := tOK_N ht
  have b0 := dnv_b (x := a1) ht
  have b1 := upv_b (x := a1) ht
  have b2 := trn_b (x := a1) ht
  have b7 := psd_b (x := a1) (p := 2) ht (by omega)
  have b8 := psd_b (x := a1) (p := 3) ht (by omega)
  have b9 := psd_b (x := a1) (p := 1) ht (by omega)
  have b11 := rot_b (x := a1) ht
  have b14 := lod_b (x := a1) (d := a3) ht
  (try have e14 : a2 = 14 := by omega)
  (try subst a2)
  first
    | omega
    | (refine ⟨ht, by omega, by omega⟩)
    | (refine ⟨ht, by omega, by omega, by omega⟩)
    | (unfold wkp; first | rw [if_pos (by omega)] | rw [if_neg (by omega)])
    | (rw [i32_tm2 (by omega) (by omega) (by omega)]; first | rfl | rw [wdo_5, if_pos (by omega)] | rw [wdo_5, if_neg (by omega)])
    | (have hm := i32_mul (x := a1) (n := a3) h0 (by omega) (by omega) (by omega); rw [i32_tm2 hm.2.1 hm.2.2 (by omega)]; rfl)
    | (rw [i32_tm (by omega) (by omega) (by omega)]; rfl)
    | (exact i32_tm b7.1 (Int.lt_of_le_of_lt b7.2 (by decide)) (by omega))
    | (exact i32_tm b8.1 (Int.lt_of_le_of_lt b8.2 (by decide)) (by omega))
    | (exact i32_tm b9.1 (Int.lt_of_le_of_lt b9.2 (by decide)) (by omega))
    | (subst e14; rw [i32_tm (by omega) (by omega) (by omega)]; rfl)
    | (rw [tdiv_n h0, i32_tm2 (by omega) (by omega) (by omega), wdo_10, if_pos (by rw [i32_hv h0] at *; omega)])
    | (rw [i32_tm (by omega) (by omega) (by omega), wdo_10, if_neg (by rw [i32_hv h0] at *; omega)])
theorem vX3_does_9 (s : MS) (a1 : Int) (a2 : Int) (a3 : Int) (hp : tOK (s.2 6) ∧ 0 ≤ a1 ∧ a1 < (s.2 6) 2 ∧ (0 ≤ (s.1 25) ∧ (s.1 25) < (s.2 6) 2) ∧ wOK ((s.2 6) 0) a2 a3) (c_11 : a2 = 2) : (tOK (s.2 6) ∧ 0 ≤ a1 ∧ a1 ≤ 100000) := by
  obtain ⟨ht, h0, h1, hk, hw, hn⟩ := hp
  have hN := tOK_N ht
  have b0 := dnv_b (x := a1) ht
  have b1 := upv_b (x := a1) ht
  have b2 := trn_b (x := a1) ht
  have b7 := psd_b (x := a1) (p := 2) ht (by omega)
  have b8 := psd_b (x := a1) (p := 3) ht (by omega)
  have b9 := psd_b (x := a1) (p := 1) ht (by omega)
  have b11 := rot_b (x := a1) ht
  have b14 := lod_b (x := a1) (d := a3) ht
  (try have e14 : a2 = 14 := by omega)
  (try subst a2)
  first
    | omega
    | (refine ⟨ht, by omega, by omega⟩)
    | (refine ⟨ht, by omega, by omega, by omega⟩)
    | (unfold wkp; first | rw [if_pos (by omega)] | rw [if_neg (by omega)])
    | (rw [i32_tm2 (by omega) (by omega) (by omega)]; first | rfl | rw [wdo_5, if_pos (by omega)] | rw [wdo_5, if_neg (by omega)])
    | (have hm := i32_mul (x := a1) (n := a3) h0 (by omega) (by omega) (by omega); rw [i32_tm2 hm.2.1 hm.2.2 (by omega)]; rfl)
    | (rw [i32_tm (by omega) (by omega) (by omega)]; rfl)
    | (exact i32_tm b7.1 (Int.lt_of_le_of_lt b7.2 (by decide)) (by omega))
    | (exact i32_tm b8.1 (Int.lt_of_le_of_lt b8.2 (by decide)) (by omega))
    | (exact i32_tm b9.1 (Int.lt_of_le_of_lt b9.2 (by decide)) (by omega))
    | (subst e14; rw [i32_tm (by omega) (by omega) (by omega)]; rfl)
    | (rw [tdiv_n h0, i32_tm2 (by omega) (by omega) (by omega), wdo_10, if_pos (by rw [i32_hv h0] at *; omega)])
    | (rw [i32_tm (by omega) (by omega) (by omega), wdo_10, if_neg (by rw [i32_hv h0] at *; omega)])
theorem vX3_does_10 (s : MS) (a1 : Int) (a2 : Int) (a3 : Int) (hp : tOK (s.2 6) ∧ 0 ≤ a1 ∧ a1 < (s.2 6) 2 ∧ (0 ≤ (s.1 25) ∧ (s.1 25) < (s.2 6) 2) ∧ wOK ((s.2 6) 0) a2 a3) (c_11 : a2 = 2) (o_12 : (tOK (s.2 6) ∧ 0 ≤ a1 ∧ a1 ≤ 100000)) : (s.2 6 2) ≠ 0 := by
  obtain ⟨ht, h0, h1, hk, hw, hn⟩ := hp
  have hN := tOK_N ht
  have b0 := dnv_b (x := a1) ht
  have b1 := upv_b (x := a1) ht
  have b2 := trn_b (x := a1) ht
  have b7 := psd_b (x := a1) (p := 2) ht (by omega)
  have b8 := psd_b (x := a1) (p := 3) ht (by omega)
  have b9 := psd_b (x := a1) (p := 1) ht (by omega)
  have b11 := rot_b (x := a1) ht
  have b14 := lod_b (x := a1) (d := a3) ht
  (try have e14 : a2 = 14 := by omega)
  (try subst a2)
  first
    | omega
    | (refine ⟨ht, by omega, by omega⟩)
    | (refine ⟨ht, by omega, by omega, by omega⟩)
    | (unfold wkp; first | rw [if_pos (by omega)] | rw [if_neg (by omega)])
    | (rw [i32_tm2 (by omega) (by omega) (by omega)]; first | rfl | rw [wdo_5, if_pos (by omega)] | rw [wdo_5, if_neg (by omega)])
    | (have hm := i32_mul (x := a1) (n := a3) h0 (by omega) (by omega) (by omega); rw [i32_tm2 hm.2.1 hm.2.2 (by omega)]; rfl)
    | (rw [i32_tm (by omega) (by omega) (by omega)]; rfl)
    | (exact i32_tm b7.1 (Int.lt_of_le_of_lt b7.2 (by decide)) (by omega))
    | (exact i32_tm b8.1 (Int.lt_of_le_of_lt b8.2 (by decide)) (by omega))
    | (exact i32_tm b9.1 (Int.lt_of_le_of_lt b9.2 (by decide)) (by omega))
    | (subst e14; rw [i32_tm (by omega) (by omega) (by omega)]; rfl)
    | (rw [tdiv_n h0, i32_tm2 (by omega) (by omega) (by omega), wdo_10, if_pos (by rw [i32_hv h0] at *; omega)])
    | (rw [i32_tm (by omega) (by omega) (by omega), wdo_10, if_neg (by rw [i32_hv h0] at *; omega)])
theorem vX3_does_11 (s : MS) (a1 : Int) (a2 : Int) (a3 : Int) (hp : tOK (s.2 6) ∧ 0 ≤ a1 ∧ a1 < (s.2 6) 2 ∧ (0 ≤ (s.1 25) ∧ (s.1 25) < (s.2 6) 2) ∧ wOK ((s.2 6) 0) a2 a3) (c_11 : a2 = 2) (o_12 : (tOK (s.2 6) ∧ 0 ≤ a1 ∧ a1 ≤ 100000)) (o_14 : (s.2 6 2) ≠ 0) : (s.1 25) = (wkp (s.1 25) a1 a2) := by
  obtain ⟨ht, h0, h1, hk, hw, hn⟩ := hp
  have hN := tOK_N ht
  have b0 := dnv_b (x := a1) ht
  have b1 := upv_b (x := a1) ht
  have b2 := trn_b (x := a1) ht
  have b7 := psd_b (x := a1) (p := 2) ht (by omega)
  have b8 := psd_b (x := a1) (p := 3) ht (by omega)
  have b9 := psd_b (x := a1) (p := 1) ht (by omega)
  have b11 := rot_b (x := a1) ht
  have b14 := lod_b (x := a1) (d := a3) ht
  (try have e14 : a2 = 14 := by omega)
  (try subst a2)
  first
    | omega
    | (refine ⟨ht, by omega, by omega⟩)
    | (refine ⟨ht, by omega, by omega, by omega⟩)
    | (unfold wkp; first | rw [if_pos (by omega)] | rw [if_neg (by omega)])
    | (rw [i32_tm2 (by omega) (by omega) (by omega)]; first | rfl | rw [wdo_5, if_pos (by omega)] | rw [wdo_5, if_neg (by omega)])
    | (have hm := i32_mul (x := a1) (n := a3) h0 (by omega) (by omega) (by omega); rw [i32_tm2 hm.2.1 hm.2.2 (by omega)]; rfl)
    | (rw [i32_tm (by omega) (by omega) (by omega)]; rfl)
    | (exact i32_tm b7.1 (Int.lt_of_le_of_lt b7.2 (by decide)) (by omega))
    | (exact i32_tm b8.1 (Int.lt_of_le_of_lt b8.2 (by decide)) (by omega))
    | (exact i32_tm b9.1 (Int.lt_of_le_of_lt b9.2 (by decide)) (by omega))
    | (subst e14; rw [i32_tm (by omega) (by omega) (by omega)]; rfl)
    | (rw [tdiv_n h0, i32_tm2 (by omega) (by omega) (by omega), wdo_10, if_pos (by rw [i32_hv h0] at *; omega)])
    | (rw [i32_tm (by omega) (by omega) (by omega), wdo_10, if_neg (by rw [i32_hv h0] at *; omega)])
theorem vX3_does_12 (s : MS) (a1 : Int) (a2 : Int) (a3 : Int) (hp : tOK (s.2 6) ∧ 0 ≤ a1 ∧ a1 < (s.2 6) 2 ∧ (0 ≤ (s.1 25) ∧ (s.1 25) < (s.2 6) 2) ∧ wOK ((s.2 6) 0) a2 a3) (c_11 : a2 = 2) (o_12 : (tOK (s.2 6) ∧ 0 ≤ a1 ∧ a1 ≤ 100000)) (o_14 : (s.2 6 2) ≠ 0) : (i32 (Int.tmod (trn ((s.2 6) 0) ((s.2 6) 1) a1) (s.2 6 2))) = (wdo (s.2 6) (s.1 25) a1 a2 a3) := by
  obtain ⟨ht, h0, h1, hk, hw, hn⟩ := hp
  have hN := tOK_N ht
  have b0 := dnv_b (x := a1) ht
  have b1 := upv_b (x := a1) ht
  have b2 := trn_b (x := a1) ht
  have b7 := psd_b (x := a1) (p := 2) ht (by omega)
  have b8 := psd_b (x := a1) (p := 3) ht (by omega)
  have b9 := psd_b (x := a1) (p := 1) ht (by omega)
  have b11 := rot_b (x := a1) ht
  have b14 := lod_b (x := a1) (d := a3) ht
  (try have e14 : a2 = 14 := by omega)
  (try subst a2)
  first
    | omega
    | (refine ⟨ht, by omega, by omega⟩)
    | (refine ⟨ht, by omega, by omega, by omega⟩)
    | (unfold wkp; first | rw [if_pos (by omega)] | rw [if_neg (by omega)])
    | (rw [i32_tm2 (by omega) (by omega) (by omega)]; first | rfl | rw [wdo_5, if_pos (by omega)] | rw [wdo_5, if_neg (by omega)])
    | (have hm := i32_mul (x := a1) (n := a3) h0 (by omega) (by omega) (by omega); rw [i32_tm2 hm.2.1 hm.2.2 (by omega)]; rfl)
    | (rw [i32_tm (by omega) (by omega) (by omega)]; rfl)
    | (exact i32_tm b7.1 (Int.lt_of_le_of_lt b7.2 (by decide)) (by omega))
    | (exact i32_tm b8.1 (Int.lt_of_le_of_lt b8.2 (by decide)) (by omega))
    | (exact i32_tm b9.1 (Int.lt_of_le_of_lt b9.2 (by decide)) (by omega))
    | (subst e14; rw [i32_tm (by omega) (by omega) (by omega)]; rfl)
    | (rw [tdiv_n h0, i32_tm2 (by omega) (by omega) (by omega), wdo_10, if_pos (by rw [i32_hv h0] at *; omega)])
    | (rw [i32_tm (by omega) (by omega) (by omega), wdo_10, if_neg (by rw [i32_hv h0] at *; omega)])
theorem vX3_does_13 (s : MS) (a1 : Int) (a2 : Int) (a3 : Int) (hp : tOK (s.2 6) ∧ 0 ≤ a1 ∧ a1 < (s.2 6) 2 ∧ (0 ≤ (s.1 25) ∧ (s.1 25) < (s.2 6) 2) ∧ wOK ((s.2 6) 0) a2 a3) (c_15 : a2 = 3) : (s.2 6 2) ≠ 0 := by
  obtain ⟨ht, h0, h1, hk, hw, hn⟩ := hp
  have hN := tOK_N ht
  have b0 := dnv_b (x := a1) ht
  have b1 := upv_b (x := a1) ht
  have b2 := trn_b (x := a1) ht
  have b7 := psd_b (x := a1) (p := 2) ht (by omega)
  have b8 := psd_b (x := a1) (p := 3) ht (by omega)
  have b9 := psd_b (x := a1) (p := 1) ht (by omega)
  have b11 := rot_b (x := a1) ht
  have b14 := lod_b (x := a1) (d := a3) ht
  (try have e14 : a2 = 14 := by omega)
  (try subst a2)
  first
    | omega
    | (refine ⟨ht, by omega, by omega⟩)
    | (refine ⟨ht, by omega, by omega, by omega⟩)
    | (unfold wkp; first | rw [if_pos (by omega)] | rw [if_neg (by omega)])
    | (rw [i32_tm2 (by omega) (by omega) (by omega)]; first | rfl | rw [wdo_5, if_pos (by omega)] | rw [wdo_5, if_neg (by omega)])
    | (have hm := i32_mul (x := a1) (n := a3) h0 (by omega) (by omega) (by omega); rw [i32_tm2 hm.2.1 hm.2.2 (by omega)]; rfl)
    | (rw [i32_tm (by omega) (by omega) (by omega)]; rfl)
    | (exact i32_tm b7.1 (Int.lt_of_le_of_lt b7.2 (by decide)) (by omega))
    | (exact i32_tm b8.1 (Int.lt_of_le_of_lt b8.2 (by decide)) (by omega))
    | (exact i32_tm b9.1 (Int.lt_of_le_of_lt b9.2 (by decide)) (by omega))
    | (subst e14; rw [i32_tm (by omega) (by omega) (by omega)]; rfl)
    | (rw [tdiv_n h0, i32_tm2 (by omega) (by omega) (by omega), wdo_10, if_pos (by rw [i32_hv h0] at *; omega)])
    | (rw [i32_tm (by omega) (by omega) (by omega), wdo_10, if_neg (by rw [i32_hv h0] at *; omega)])
theorem vX3_does_14 (s : MS) (a1 : Int) (a2 : Int) (a3 : Int) (hp : tOK (s.2 6) ∧ 0 ≤ a1 ∧ a1 < (s.2 6) 2 ∧ (0 ≤ (s.1 25) ∧ (s.1 25) < (s.2 6) 2) ∧ wOK ((s.2 6) 0) a2 a3) (c_15 : a2 = 3) (o_16 : (s.2 6 2) ≠ 0) : a1 = (wkp (s.1 25) a1 a2) := by
  obtain ⟨ht, h0, h1, hk, hw, hn⟩ := hp
  have hN := tOK_N ht
  have b0 := dnv_b (x := a1) ht
  have b1 := upv_b (x := a1) ht
  have b2 := trn_b (x := a1) ht
  have b7 := psd_b (x := a1) (p := 2) ht (by omega)
  have b8 := psd_b (x := a1) (p := 3) ht (by omega)
  have b9 := psd_b (x := a1) (p := 1) ht (by omega)
  have b11 := rot_b (x := a1) ht
  have b14 := lod_b (x := a1) (d := a3) ht
  (try have e14 : a2 = 14 := by omega)
  (try subst a2)
  first
    | omega
    | (refine ⟨ht, by omega, by omega⟩)
    | (refine ⟨ht, by omega, by omega, by omega⟩)
    | (unfold wkp; first | rw [if_pos (by omega)] | rw [if_neg (by omega)])
    | (rw [i32_tm2 (by omega) (by omega) (by omega)]; first | rfl | rw [wdo_5, if_pos (by omega)] | rw [wdo_5, if_neg (by omega)])
    | (have hm := i32_mul (x := a1) (n := a3) h0 (by omega) (by omega) (by omega); rw [i32_tm2 hm.2.1 hm.2.2 (by omega)]; rfl)
    | (rw [i32_tm (by omega) (by omega) (by omega)]; rfl)
    | (exact i32_tm b7.1 (Int.lt_of_le_of_lt b7.2 (by decide)) (by omega))
    | (exact i32_tm b8.1 (Int.lt_of_le_of_lt b8.2 (by decide)) (by omega))
    | (exact i32_tm b9.1 (Int.lt_of_le_of_lt b9.2 (by decide)) (by omega))
    | (subst e14; rw [i32_tm (by omega) (by omega) (by omega)]; rfl)
    | (rw [tdiv_n h0, i32_tm2 (by omega) (by omega) (by omega), wdo_10, if_pos (by rw [i32_hv h0] at *; omega)])
    | (rw [i32_tm (by omega) (by omega) (by omega), wdo_10, if_neg (by rw [i32_hv h0] at *; omega)])
theorem vX3_does_15 (s : MS) (a1 : Int) (a2 : Int) (a3 : Int) (hp : tOK (s.2 6) ∧ 0 ≤ a1 ∧ a1 < (s.2 6) 2 ∧ (0 ≤ (s.1 25) ∧ (s.1 25) < (s.2 6) 2) ∧ wOK ((s.2 6) 0) a2 a3) (c_15 : a2 = 3) (o_16 : (s.2 6 2) ≠ 0) : (i32 (Int.tmod a1 (s.2 6 2))) = (wdo (s.2 6) (s.1 25) a1 a2 a3) := by
  obtain ⟨ht, h0, h1, hk, hw, hn⟩ := hp
  have hN := tOK_N ht
  have b0 := dnv_b (x := a1) ht
  have b1 := upv_b (x := a1) ht
  have b2 := trn_b (x := a1) ht
  have b7 := psd_b (x := a1) (p := 2) ht (by omega)
  have b8 := psd_b (x := a1) (p := 3) ht (by omega)
  have b9 := psd_b (x := a1) (p := 1) ht (by omega)
  have b11 := rot_b (x := a1) ht
  have b14 := lod_b (x := a1) (d := a3) ht
  (try have e14 : a2 = 14 := by omega)
  (try subst a2)
  first
    | omega
    | (refine ⟨ht, by omega, by omega⟩)
    | (refine ⟨ht, by omega, by omega, by omega⟩)
    | (unfold wkp; first | rw [if_pos (by omega)] | rw [if_neg (by omega)])
    | (rw [i32_tm2 (by omega) (by omega) (by omega)]; first | rfl | rw [wdo_5, if_pos (by omega)] | rw [wdo_5, if_neg (by omega)])
    | (have hm := i32_mul (x := a1) (n := a3) h0 (by omega) (by omega) (by omega); rw [i32_tm2 hm.2.1 hm.2.2 (by omega)]; rfl)
    | (rw [i32_tm (by omega) (by omega) (by omega)]; rfl)
    | (exact i32_tm b7.1 (Int.lt_of_le_of_lt b7.2 (by decide)) (by omega))
    | (exact i32_tm b8.1 (Int.lt_of_le_of_lt b8.2 (by decide)) (by omega))
    | (exact i32_tm b9.1 (Int.lt_of_le_of_lt b9.2 (by decide)) (by omega))
    | (subst e14; rw [i32_tm (by omega) (by omega) (by omega)]; rfl)
    | (rw [tdiv_n h0, i32_tm2 (by omega) (by omega) (by omega), wdo_10, if_pos (by rw [i32_hv h0] at *; omega)])
    | (rw [i32_tm (by omega) (by omega) (by omega), wdo_10, if_neg (by rw [i32_hv h0] at *; omega)])
theorem vX3_does_16 (s : MS) (a1 : Int) (a2 : Int) (a3 : Int) (hp : tOK (s.2 6) ∧ 0 ≤ a1 ∧ a1 < (s.2 6) 2 ∧ (0 ≤ (s.1 25) ∧ (s.1 25) < (s.2 6) 2) ∧ wOK ((s.2 6) 0) a2 a3) (c_17 : a2 = 4) : (s.2 6 2) ≠ 0 := by
  obtain ⟨ht, h0, h1, hk, hw, hn⟩ := hp
  have hN := tOK_N ht
  have b0 := dnv_b (x := a1) ht
  have b1 := upv_b (x := a1) ht
  have b2 := trn_b (x := a1) ht
  have b7 := psd_b (x := a1) (p := 2) ht (by omega)
  have b8 := psd_b (x := a1) (p := 3) ht (by omega)
  have b9 := psd_b (x := a1) (p := 1) ht (by omega)
  have b11 := rot_b (x := a1) ht
  have b14 := lod_b (x := a1) (d := a3) ht
  (try have e14 : a2 = 14 := by omega)
  (try subst a2)
  first
    | omega
    | (refine ⟨ht, by omega, by omega⟩)
    | (refine ⟨ht, by omega, by omega, by omega⟩)
    | (unfold wkp; first | rw [if_pos (by omega)] | rw [if_neg (by omega)])
    | (rw [i32_tm2 (by omega) (by omega) (by omega)]; first | rfl | rw [wdo_5, if_pos (by omega)] | rw [wdo_5, if_neg (by omega)])
    | (have hm := i32_mul (x := a1) (n := a3) h0 (by omega) (by omega) (by omega); rw [i32_tm2 hm.2.1 hm.2.2 (by omega)]; rfl)
    | (rw [i32_tm (by omega) (by omega) (by omega)]; rfl)
    | (exact i32_tm b7.1 (Int.lt_of_le_of_lt b7.2 (by decide)) (by omega))
    | (exact i32_tm b8.1 (Int.lt_of_le_of_lt b8.2 (by decide)) (by omega))
    | (exact i32_tm b9.1 (Int.lt_of_le_of_lt b9.2 (by decide)) (by omega))
    | (subst e14; rw [i32_tm (by omega) (by omega) (by omega)]; rfl)
    | (rw [tdiv_n h0, i32_tm2 (by omega) (by omega) (by omega), wdo_10, if_pos (by rw [i32_hv h0] at *; omega)])
    | (rw [i32_tm (by omega) (by omega) (by omega), wdo_10, if_neg (by rw [i32_hv h0] at *; omega)])
theorem vX3_does_17 (s : MS) (a1 : Int) (a2 : Int) (a3 : Int) (hp : tOK (s.2 6) ∧ 0 ≤ a1 ∧ a1 < (s.2 6) 2 ∧ (0 ≤ (s.1 25) ∧ (s.1 25) < (s.2 6) 2) ∧ wOK ((s.2 6) 0) a2 a3) (c_17 : a2 = 4) (o_18 : (s.2 6 2) ≠ 0) : (s.1 25) = (wkp (s.1 25) a1 a2) := by
  obtain ⟨ht, h0, h1, hk, hw, hn⟩ := hp
  have hN := tOK_N ht
  have b0 := dnv_b (x := a1) ht
  have b1 := upv_b (x := a1) ht
  have b2 := trn_b (x := a1) ht
  have b7 := psd_b (x := a1) (p := 2) ht (by omega)
  have b8 := psd_b (x := a1) (p := 3) ht (by omega)
  have b9 := psd_b (x := a1) (p := 1) ht (by omega)
  have b11 := rot_b (x := a1) ht
  have b14 := lod_b (x := a1) (d := a3) ht
  (try have e14 : a2 = 14 := by omega)
  (try subst a2)
  first
    | omega
    | (refine ⟨ht, by omega, by omega⟩)
    | (refine ⟨ht, by omega, by omega, by omega⟩)
    | (unfold wkp; first | rw [if_pos (by omega)] | rw [if_neg (by omega)])
    | (rw [i32_tm2 (by omega) (by omega) (by omega)]; first | rfl | rw [wdo_5, if_pos (by omega)] | rw [wdo_5, if_neg (by omega)])
    | (have hm := i32_mul (x := a1) (n := a3) h0 (by omega) (by omega) (by omega); rw [i32_tm2 hm.2.1 hm.2.2 (by omega)]; rfl)
    | (rw [i32_tm (by omega) (by omega) (by omega)]; rfl)
    | (exact i32_tm b7.1 (Int.lt_of_le_of_lt b7.2 (by decide)) (by omega))
    | (exact i32_tm b8.1 (Int.lt_of_le_of_lt b8.2 (by decide)) (by omega))
    | (exact i32_tm b9.1 (Int.lt_of_le_of_lt b9.2 (by decide)) (by omega))
    | (subst e14; rw [i32_tm (by omega) (by omega) (by omega)]; rfl)
    | (rw [tdiv_n h0, i32_tm2 (by omega) (by omega) (by omega), wdo_10, if_pos (by rw [i32_hv h0] at *; omega)])
    | (rw [i32_tm (by omega) (by omega) (by omega), wdo_10, if_neg (by rw [i32_hv h0] at *; omega)])
theorem vX3_does_18 (s : MS) (a1 : Int) (a2 : Int) (a3 : Int) (hp : tOK (s.2 6) ∧ 0 ≤ a1 ∧ a1 < (s.2 6) 2 ∧ (0 ≤ (s.1 25) ∧ (s.1 25) < (s.2 6) 2) ∧ wOK ((s.2 6) 0) a2 a3) (c_17 : a2 = 4) (o_18 : (s.2 6 2) ≠ 0) : (i32 (Int.tmod (s.1 25) (s.2 6 2))) = (wdo (s.2 6) (s.1 25) a1 a2 a3) := by
  obtain ⟨ht, h0, h1, hk, hw, hn⟩ := hp
  have hN := tOK_N ht
  have b0 := dnv_b (x := a1) ht
  have b1 := upv_b (x := a1) ht
  have b2 := trn_b (x := a1) ht
  have b7 := psd_b (x := a1) (p := 2) ht (by omega)
  have b8 := psd_b (x := a1) (p := 3) ht (by omega)
  have b9 := psd_b (x := a1) (p := 1) ht (by omega)
  have b11 := rot_b (x := a1) ht
  have b14 := lod_b (x := a1) (d := a3) ht
  (try have e14 : a2 = 14 := by omega)
  (try subst a2)
  first
    | omega
    | (refine ⟨ht, by omega, by omega⟩)
    | (refine ⟨ht, by omega, by omega, by omega⟩)
    | (unfold wkp; first | rw [if_pos (by omega)] | rw [if_neg (by omega)])
    | (rw [i32_tm2 (by omega) (by omega) (by omega)]; first | rfl | rw [wdo_5, if_pos (by omega)] | rw [wdo_5, if_neg (by omega)])
    | (have hm := i32_mul (x := a1) (n := a3) h0 (by omega) (by omega) (by omega); rw [i32_tm2 hm.2.1 hm.2.2 (by omega)]; rfl)
    | (rw [i32_tm (by omega) (by omega) (by omega)]; rfl)
    | (exact i32_tm b7.1 (Int.lt_of_le_of_lt b7.2 (by decide)) (by omega))
    | (exact i32_tm b8.1 (Int.lt_of_le_of_lt b8.2 (by decide)) (by omega))
    | (exact i32_tm b9.1 (Int.lt_of_le_of_lt b9.2 (by decide)) (by omega))
    | (subst e14; rw [i32_tm (by omega) (by omega) (by omega)]; rfl)
    | (rw [tdiv_n h0, i32_tm2 (by omega) (by omega) (by omega), wdo_10, if_pos (by rw [i32_hv h0] at *; omega)])
    | (rw [i32_tm (by omega) (by omega) (by omega), wdo_10, if_neg (by rw [i32_hv h0] at *; omega)])
theorem vX3_does_19 (s : MS) (a1 : Int) (a2 : Int) (a3 : Int) (hp : tOK (s.2 6) ∧ 0 ≤ a1 ∧ a1 < (s.2 6) 2 ∧ (0 ≤ (s.1 25) ∧ (s.1 25) < (s.2 6) 2) ∧ wOK ((s.2 6) 0) a2 a3) (c_19 : a2 = 5) (c_20 : a1 ≤ (s.1 25)) : (s.2 6 2) ≠ 0 := by
  obtain ⟨ht, h0, h1, hk, hw, hn⟩ := hp
  have hN := tOK_N ht
  have b0 := dnv_b (x := a1) ht
  have b1 := upv_b (x := a1) ht
  have b2 := trn_b (x := a1) ht
  have b7 := psd_b (x := a1) (p := 2) ht (by omega)
  have b8 := psd_b (x := a1) (p := 3) ht (by omega)
  have b9 := psd_b (x := a1) (p := 1) ht (by omega)
  have b11 := rot_b (x := a1) ht
  have b14 := lod_b (x := a1) (d := a3) ht
  (try have e14 : a2 = 14 := by omega)
  (try subst a2)
  first
    | omega
    | (refine ⟨ht, by omega, by omega⟩)
    | (refine ⟨ht, by omega, by omega, by omega⟩)
    | (unfold wkp; first | rw [if_pos (by omega)] | rw [if_neg (by omega)])
    | (rw [i32_tm2 (by omega) (by omega) (by omega)]; first | rfl | rw [wdo_5, if_pos (by omega)] | rw [wdo_5, if_neg (by omega)])
    | (have hm := i32_mul (x := a1) (n := a3) h0 (by omega) (by omega) (by omega); rw [i32_tm2 hm.2.1 hm.2.2 (by omega)]; rfl)
    | (rw [i32_tm (by omega) (by omega) (by omega)]; rfl)
    | (exact i32_tm b7.1 (Int.lt_of_le_of_lt b7.2 (by decide)) (by omega))
    | (exact i32_tm b8.1 (Int.lt_of_le_of_lt b8.2 (by decide)) (by omega))
    | (exact i32_tm b9.1 (Int.lt_of_le_of_lt b9.2 (by decide)) (by omega))
    | (subst e14; rw [i32_tm (by omega) (by omega) (by omega)]; rfl)
    | (rw [tdiv_n h0, i32_tm2 (by omega) (by omega) (by omega), wdo_10, if_pos (by rw [i32_hv h0] at *; omega)])
    | (rw [i32_tm (by omega) (by omega) (by omega), wdo_10, if_neg (by rw [i32_hv h0] at *; omega)])
theorem vX3_does_20 (s : MS) (a1 : Int) (a2 : Int) (a3 : Int) (hp : tOK (s.2 6) ∧ 0 ≤ a1 ∧ a1 < (s.2 6) 2 ∧ (0 ≤ (s.1 25) ∧ (s.1 25) < (s.2 6) 2) ∧ wOK ((s.2 6) 0) a2 a3) (c_19 : a2 = 5) (c_20 : a1 ≤ (s.1 25)) (o_21 : (s.2 6 2) ≠ 0) : (s.1 25) = (wkp (s.1 25) a1 a2) := by
  obtain ⟨ht, h0, h1, hk, hw, hn⟩ := hp
  have hN := tOK_N ht
  have b0 := dnv_b (x := a1) ht
  have b1 := upv_b (x := a1) ht
  have b2 := trn_b (x := a1) ht
  have b7 := psd_b (x := a1) (p := 2) ht (by omega)
  have b8 := psd_b (x := a1) (p := 3) ht (by omega)
  have b9 := psd_b (x := a1) (p := 1) ht (by omega)
  have b11 := rot_b (x := a1) ht
  have b14 := lod_b (x := a1) (d := a3) ht
  (try have e14 : a2 = 14 := by omega)
  (try subst a2)
  first
    | omega
    | (refine ⟨ht, by omega, by omega⟩)
    | (refine ⟨ht, by omega, by omega, by omega⟩)
    | (unfold wkp; first | rw [if_pos (by omega)] | rw [if_neg (by omega)])
    | (rw [i32_tm2 (by omega) (by omega) (by omega)]; first | rfl | rw [wdo_5, if_pos (by omega)] | rw [wdo_5, if_neg (by omega)])
    | (have hm := i32_mul (x := a1) (n := a3) h0 (by omega) (by omega) (by omega); rw [i32_tm2 hm.2.1 hm.2.2 (by omega)]; rfl)
    | (rw [i32_tm (by omega) (by omega) (by omega)]; rfl)
    | (exact i32_tm b7.1 (Int.lt_of_le_of_lt b7.2 (by decide)) (by omega))
    | (exact i32_tm b8.1 (Int.lt_of_le_of_lt b8.2 (by decide)) (by omega))
    | (exact i32_tm b9.1 (Int.lt_of_le_of_lt b9.2 (by decide)) (by omega))
    | (subst e14; rw [i32_tm (by omega) (by omega) (by omega)]; rfl)
    | (rw [tdiv_n h0, i32_tm2 (by omega) (by omega) (by omega), wdo_10, if_pos (by rw [i32_hv h0] at *; omega)])
    | (rw [i32_tm (by omega) (by omega) (by omega), wdo_10, if_neg (by rw [i32_hv h0] at *; omega)])
theorem vX3_does_21 (s : MS) (a1 : Int) (a2 : Int) (a3 : Int) (hp : tOK (s.2 6) ∧ 0 ≤ a1 ∧ a1 < (s.2 6) 2 ∧ (0 ≤ (s.1 25) ∧ (s.1 25) < (s.2 6) 2) ∧ wOK ((s.2 6) 0) a2 a3) (c_19 : a2 = 5) (c_20 : a1 ≤ (s.1 25)) (o_21 : (s.2 6 2) ≠ 0) : (i32 (Int.tmod (i32 ((s.1 25) - a1)) (s.2 6 2))) = (wdo (s.2 6) (s.1 25) a1 a2 a3) := by
  obtain ⟨ht, h0, h1, hk, hw, hn⟩ := hp
  have hN := tOK_N ht
  have b0 := dnv_b (x := a1) ht
  have b1 := upv_b (x := a1) ht
  have b2 := trn_b (x := a1) ht
  have b7 := psd_b (x := a1) (p := 2) ht (by omega)
  have b8 := psd_b (x := a1) (p := 3) ht (by omega)
  have b9 := psd_b (x := a1) (p := 1) ht (by omega)
  have b11 := rot_b (x := a1) ht
  have b14 := lod_b (x := a1) (d := a3) ht
  (try have e14 : a2 = 14 := by omega)
  (try subst a2)
  first
    | omega
    | (refine ⟨ht, by omega, by omega⟩)
    | (refine ⟨ht, by omega, by omega, by omega⟩)
    | (unfold wkp; first | rw [if_pos (by omega)] | rw [if_neg (by omega)])
    | (rw [i32_tm2 (by omega) (by omega) (by omega)]; first | rfl | rw [wdo_5, if_pos (by omega)] | rw [wdo_5, if_neg (by omega)])
    | (have hm := i32_mul (x := a1) (n := a3) h0 (by omega) (by omega) (by omega); rw [i32_tm2 hm.2.1 hm.2.2 (by omega)]; rfl)
    | (rw [i32_tm (by omega) (by omega) (by omega)]; rfl)
    | (exact i32_tm b7.1 (Int.lt_of_le_of_lt b7.2 (by decide)) (by omega))
    | (exact i32_tm b8.1 (Int.lt_of_le_of_lt b8.2 (by decide)) (by omega))
    | (exact i32_tm b9.1 (Int.lt_of_le_of_lt b9.2 (by decide)) (by omega))
    | (subst e14; rw [i32_tm (by omega) (by omega) (by omega)]; rfl)
    | (rw [tdiv_n h0, i32_tm2 (by omega) (by omega) (by omega), wdo_10, if_pos (by rw [i32_hv h0] at *; omega)])
    | (rw [i32_tm (by omega) (by omega) (by omega), wdo_10, if_neg (by rw [i32_hv h0] at *; omega)])
theorem vX3_does_22 (s : MS) (a1 : Int) (a2 : Int) (a3 : Int) (hp : tOK (s.2 6) ∧ 0 ≤ a1 ∧ a1 < (s.2 6) 2 ∧ (0 ≤ (s.1 25) ∧ (s.1 25) < (s.2 6) 2) ∧ wOK ((s.2 6) 0) a2 a3) (c_19 : a2 = 5) (c_20 : ¬ a1 ≤ (s.1 25)) : (s.2 6 2) ≠ 0 := by
  obtain ⟨ht, h0, h1, hk, hw, hn⟩ := hp
  have hN := tOK_N ht
  have b0 := dnv_b (x := a1) ht
  have b1 := upv_b (x := a1) ht
  have b2 := trn_b (x := a1) ht
  have b7 := psd_b (x := a1) (p := 2) ht (by omega)
  have b8 := psd_b (x := a1) (p := 3) ht (by omega)
  have b9 := psd_b (x := a1) (p := 1) ht (by omega)
  have b11 := rot_b (x := a1) ht
  have b14 := lod_b (x := a1) (d := a3) ht
  (try have e14 : a2 = 14 := by omega)
  (try subst a2)
  first
    | omega
    | (refine ⟨ht, by omega, by omega⟩)
    | (refine ⟨ht, by omega, by omega, by omega⟩)
    | (unfold wkp; first | rw [if_pos (by omega)] | rw [if_neg (by omega)])
    | (rw [i32_tm2 (by omega) (by omega) (by omega)]; first | rfl | rw [wdo_5, if_pos (by omega)] | rw [wdo_5, if_neg (by omega)])
    | (have hm := i32_mul (x := a1) (n := a3) h0 (by omega) (by omega) (by omega); rw [i32_tm2 hm.2.1 hm.2.2 (by omega)]; rfl)
    | (rw [i32_tm (by omega) (by omega) (by omega)]; rfl)
    | (exact i32_tm b7.1 (Int.lt_of_le_of_lt b7.2 (by decide)) (by omega))
    | (exact i32_tm b8.1 (Int.lt_of_le_of_lt b8.2 (by decide)) (by omega))
    | (exact i32_tm b9.1 (Int.lt_of_le_of_lt b9.2 (by decide)) (by omega))
    | (subst e14; rw [i32_tm (by omega) (by omega) (by omega)]; rfl)
    | (rw [tdiv_n h0, i32_tm2 (by omega) (by omega) (by omega), wdo_10, if_pos (by rw [i32_hv h0] at *; omega)])
    | (rw [i32_tm (by omega) (by omega) (by omega), wdo_10, if_neg (by rw [i32_hv h0] at *; omega)])
theorem vX3_does_23 (s : MS) (a1 : Int) (a2 : Int) (a3 : Int) (hp : tOK (s.2 6) ∧ 0 ≤ a1 ∧ a1 < (s.2 6) 2 ∧ (0 ≤ (s.1 25) ∧ (s.1 25) < (s.2 6) 2) ∧ wOK ((s.2 6) 0) a2 a3) (c_19 : a2 = 5) (c_20 : ¬ a1 ≤ (s.1 25)) (o_22 : (s.2 6 2) ≠ 0) : (s.1 25) = (wkp (s.1 25) a1 a2) := by
  obtain ⟨ht, h0, h1, hk, hw, hn⟩ := hp
  have hN := tOK_N ht
  have b0 := dnv_b (x := a1) ht
  have b1 := upv_b (x := a1) ht
  have b2 := trn_b (x := a1) ht
  have b7 := psd_b (x := a1) (p := 2) ht (by omega)
  have b8 := psd_b (x := a1) (p := 3) ht (by omega)
  have b9 := psd_b (x := a1) (p := 1) ht (by omega)
  have b11 := rot_b (x := a1) ht
  have b14 := lod_b (x := a1) (d := a3) ht
  (try have e14 : a2 = 14 := by omega)
  (try subst a2)
  first
    | omega
    | (refine ⟨ht, by omega, by omega⟩)
    | (refine ⟨ht, by omega, by omega, by omega⟩)
    | (unfold wkp; first | rw [if_pos (by omega)] | rw [if_neg (by omega)])
    | (rw [i32_tm2 (by omega) (by omega) (by omega)]; first | rfl | rw [wdo_5, if_pos (by omega)] | rw [wdo_5, if_neg (by omega)])
    | (have hm := i32_mul (x := a1) (n := a3) h0 (by omega) (by omega) (by omega); rw [i32_tm2 hm.2.1 hm.2.2 (by omega)]; rfl)
    | (rw [i32_tm (by omega) (by omega) (by omega)]; rfl)
    | (exact i32_tm b7.1 (Int.lt_of_le_of_lt b7.2 (by decide)) (by omega))
    | (exact i32_tm b8.1 (Int.lt_of_le_of_lt b8.2 (by decide)) (by omega))
    | (exact i32_tm b9.1 (Int.lt_of_le_of_lt b9.2 (by decide)) (by omega))
    | (subst e14; rw [i32_tm (by omega) (by omega) (by omega)]; rfl)
    | (rw [tdiv_n h0, i32_tm2 (by omega) (by omega) (by omega), wdo_10, if_pos (by rw [i32_hv h0] at *; omega)])
    | (rw [i32_tm (by omega) (by omega) (by omega), wdo_10, if_neg (by rw [i32_hv h0] at *; omega)])
theorem vX3_does_24 (s : MS) (a1 : Int) (a2 : Int) (a3 : Int) (hp : tOK (s.2 6) ∧ 0 ≤ a1 ∧ a1 < (s.2 6) 2 ∧ (0 ≤ (s.1 25) ∧ (s.1 25) < (s.2 6) 2) ∧ wOK ((s.2 6) 0) a2 a3) (c_19 : a2 = 5) (c_20 : ¬ a1 ≤ (s.1 25)) (o_22 : (s.2 6 2) ≠ 0) : (i32 (Int.tmod (i32 (a1 - (s.1 25))) (s.2 6 2))) = (wdo (s.2 6) (s.1 25) a1 a2 a3) := by
  obtain ⟨ht, h0, h1, hk, hw, hn⟩ := hp
  have hN := tOK_N ht
  have b0 := dnv_b (x := a1) ht
  have b1 := upv_b (x := a1) ht
  have b2 := trn_b (x := a1) ht
  have b7 := psd_b (x := a1) (p := 2) ht (by omega)
  have b8 := psd_b (x := a1) (p := 3) ht (by omega)
  have b9 := psd_b (x := a1) (p := 1) ht (by omega)
  have b11 := rot_b (x := a1) ht
  have b14 := lod_b (x := a1) (d := a3) ht
  (try have e14 : a2 = 14 := by omega)
  (try subst a2)
  first
    | omega
    | (refine ⟨ht, by omega, by omega⟩)
    | (refine ⟨ht, by omega, by omega, by omega⟩)
    | (unfold wkp; first | rw [if_pos (by omega)] | rw [if_neg (by omega)])
    | (rw [i32_tm2 (by omega) (by omega) (by omega)]; first | rfl | rw [wdo_5, if_pos (by omega)] | rw [wdo_5, if_neg (by omega)])
    | (have hm := i32_mul (x := a1) (n := a3) h0 (by omega) (by omega) (by omega); rw [i32_tm2 hm.2.1 hm.2.2 (by omega)]; rfl)
    | (rw [i32_tm (by omega) (by omega) (by omega)]; rfl)
    | (exact i32_tm b7.1 (Int.lt_of_le_of_lt b7.2 (by decide)) (by omega))
    | (exact i32_tm b8.1 (Int.lt_of_le_of_lt b8.2 (by decide)) (by omega))
    | (exact i32_tm b9.1 (Int.lt_of_le_of_lt b9.2 (by decide)) (by omega))
    | (subst e14; rw [i32_tm (by omega) (by omega) (by omega)]; rfl)
    | (rw [tdiv_n h0, i32_tm2 (by omega) (by omega) (by omega), wdo_10, if_pos (by rw [i32_hv h0] at *; omega)])
    | (rw [i32_tm (by omega) (by omega) (by omega), wdo_10, if_neg (by rw [i32_hv h0] at *; omega)])
theorem vX3_does_25 (s : MS) (a1 : Int) (a2 : Int) (a3 : Int) (hp : tOK (s.2 6) ∧ 0 ≤ a1 ∧ a1 < (s.2 6) 2 ∧ (0 ≤ (s.1 25) ∧ (s.1 25) < (s.2 6) 2) ∧ wOK ((s.2 6) 0) a2 a3) (c_23 : a2 = 6) : (s.2 6 2) ≠ 0 := by
  obtain ⟨ht, h0, h1, hk, hw, hn⟩ := hp
  have hN := tOK_N ht
  have b0 := dnv_b (x := a1) ht
  have b1 := upv_b (x := a1) ht
  have b2 := trn_b (x := a1) ht
  have b7 := psd_b (x := a1) (p := 2) ht (by omega)
  have b8 := psd_b (x := a1) (p := 3) ht (by omega)
  have b9 := psd_b (x := a1) (p := 1) ht (by omega)
  have b11 := rot_b (x := a1) ht
  have b14 := lod_b (x := a1) (d := a3) ht
  (try have e14 : a2 = 14 := by omega)
  (try subst a2)
  first
    | omega
    | (refine ⟨ht, by omega, by omega⟩)
    | (refine ⟨ht, by omega, by omega, by omega⟩)
    | (unfold wkp; first | rw [if_pos (by omega)] | rw [if_neg (by omega)])
    | (rw [i32_tm2 (by omega) (by omega) (by omega)]; first | rfl | rw [wdo_5, if_pos (by omega)] | rw [wdo_5, if_neg (by omega)])
    | (have hm := i32_mul (x := a1) (n := a3) h0 (by omega) (by omega) (by omega); rw [i32_tm2 hm.2.1 hm.2.2 (by omega)]; rfl)
    | (rw [i32_tm (by omega) (by omega) (by omega)]; rfl)
    | (exact i32_tm b7.1 (Int.lt_of_le_of_lt b7.2 (by decide)) (by omega))
    | (exact i32_tm b8.1 (Int.lt_of_le_of_lt b8.2 (by decide)) (by omega))
    | (exact i32_tm b9.1 (Int.lt_of_le_of_lt b9.2 (by decide)) (by omega))
    | (subst e14; rw [i32_tm (by omega) (by omega) (by omega)]; rfl)
    | (rw [tdiv_n h0, i32_tm2 (by omega) (by omega) (by omega), wdo_10, if_pos (by rw [i32_hv h0] at *; omega)])
    | (rw [i32_tm (by omega) (by omega) (by omega), wdo_10, if_neg (by rw [i32_hv h0] at *; omega)])
theorem vX3_does_26 (s : MS) (a1 : Int) (a2 : Int) (a3 : Int) (hp : tOK (s.2 6) ∧ 0 ≤ a1 ∧ a1 < (s.2 6) 2 ∧ (0 ≤ (s.1 25) ∧ (s.1 25) < (s.2 6) 2) ∧ wOK ((s.2 6) 0) a2 a3) (c_23 : a2 = 6) (o_24 : (s.2 6 2) ≠ 0) : (s.1 25) = (wkp (s.1 25) a1 a2) := by
  obtain ⟨ht, h0, h1, hk, hw, hn⟩ := hp
  have hN := tOK_N ht
  have b0 := dnv_b (x := a1) ht
  have b1 := upv_b (x := a1) ht
  have b2 := trn_b (x := a1) ht
  have b7 := psd_b (x := a1) (p := 2) ht (by omega)
  have b8 := psd_b (x := a1) (p := 3) ht (by omega)
  have b9 := psd_b (x := a1) (p := 1) ht (by omega)
  have b11 := rot_b (x := a1) ht
  have b14 := lod_b (x := a1) (d := a3) ht
  (try have e14 : a2 = 14 := by omega)
  (try subst a2)
  first
    | omega
    | (refine ⟨ht, by omega, by omega⟩)
    | (refine ⟨ht, by omega, by omega, by omega⟩)
    | (unfold wkp; first | rw [if_pos (by omega)] | rw [if_neg (by omega)])
    | (rw [i32_tm2 (by omega) (by omega) (by omega)]; first | rfl | rw [wdo_5, if_pos (by omega)] | rw [wdo_5, if_neg (by omega)])
    | (have hm := i32_mul (x := a1) (n := a3) h0 (by omega) (by omega) (by omega); rw [i32_tm2 hm.2.1 hm.2.2 (by omega)]; rfl)
    | (rw [i32_tm (by omega) (by omega) (by omega)]; rfl)
    | (exact i32_tm b7.1 (Int.lt_of_le_of_lt b7.2 (by decide)) (by omega))
    | (exact i32_tm b8.1 (Int.lt_of_le_of_lt b8.2 (by decide)) (by omega))
    | (exact i32_tm b9.1 (Int.lt_of_le_of_lt b9.2 (by decide)) (by omega))
    | (subst e14; rw [i32_tm (by omega) (by omega) (by omega)]; rfl)
    | (rw [tdiv_n h0, i32_tm2 (by omega) (by omega) (by omega), wdo_10, if_pos (by rw [i32_hv h0] at *; omega)])
    | (rw [i32_tm (by omega) (by omega) (by omega), wdo_10, if_neg (by rw [i32_hv h0] at *; omega)])
theorem vX3_does_27 (s : MS) (a1 : Int) (a2 : Int) (a3 : Int) (hp : tOK (s.2 6) ∧ 0 ≤ a1 ∧ a1 < (s.2 6) 2 ∧ (0 ≤ (s.1 25) ∧ (s.1 25) < (s.2 6) 2) ∧ wOK ((s.2 6) 0) a2 a3) (c_23 : a2 = 6) (o_24 : (s.2 6 2) ≠ 0) : (i32 (Int.tmod (i32 (a1 + (s.1 25))) (s.2 6 2))) = (wdo (s.2 6) (s.1 25) a1 a2 a3) := by
  obtain ⟨ht, h0, h1, hk, hw, hn⟩ := hp
  have hN := tOK_N ht
  have b0 := dnv_b (x := a1) ht
  have b1 := upv_b (x := a1) ht
  have b2 := trn_b (x := a1) ht
  have b7 := psd_b (x := a1) (p := 2) ht (by omega)
  have b8 := psd_b (x := a1) (p := 3) ht (by omega)
  have b9 := psd_b (x := a1) (p := 1) ht (by omega)
  have b11 := rot_b (x := a1) ht
  have b14 := lod_b (x := a1) (d := a3) ht
  (try have e14 : a2 = 14 := by omega)
  (try subst a2)
  first
    | omega
    | (refine ⟨ht, by omega, by omega⟩)
    | (refine ⟨ht, by omega, by omega, by omega⟩)
    | (unfold wkp; first | rw [if_pos (by omega)] | rw [if_neg (by omega)])
    | (rw [i32_tm2 (by omega) (by omega) (by omega)]; first | rfl | rw [wdo_5, if_pos (by omega)] | rw [wdo_5, if_neg (by omega)])
    | (have hm := i32_mul (x := a1) (n := a3) h0 (by omega) (by omega) (by omega); rw [i32_tm2 hm.2.1 hm.2.2 (by omega)]; rfl)
    | (rw [i32_tm (by omega) (by omega) (by omega)]; rfl)
    | (exact i32_tm b7.1 (Int.lt_of_le_of_lt b7.2 (by decide)) (by omega))
    | (exact i32_tm b8.1 (Int.lt_of_le_of_lt b8.2 (by decide)) (by omega))
    | (exact i32_tm b9.1 (Int.lt_of_le_of_lt b9.2 (by decide)) (by omega))
    | (subst e14; rw [i32_tm (by omega) (by omega) (by omega)]; rfl)
    | (rw [tdiv_n h0, i32_tm2 (by omega) (by omega) (by omega), wdo_10, if_pos (by rw [i32_hv h0] at *; omega)])
    | (rw [i32_tm (by omega) (by omega) (by omega), wdo_10, if_neg (by rw [i32_hv h0] at *; omega)])
theorem vX3_does_28 (s : MS) (a1 : Int) (a2 : Int) (a3 : Int) (hp : tOK (s.2 6) ∧ 0 ≤ a1 ∧ a1 < (s.2 6) 2 ∧ (0 ≤ (s.1 25) ∧ (s.1 25) < (s.2 6) 2) ∧ wOK ((s.2 6) 0) a2 a3) (c_25 : a2 = 7) : (tOK (s.2 6) ∧ 0 ≤ a1 ∧ a1 ≤ 100000 ∧ ((2 : Int) = 1 ∨ (2 : Int) = 2 ∨ (2 : Int) = 3)) := by
  obtain ⟨ht, h0, h1, hk, hw, hn⟩ := hp
  have hN := tOK_N ht
  have b0 := dnv_b (x := a1) ht
  have b1 := upv_b (x := a1) ht
  have b2 := trn_b (x := a1) ht
  have b7 := psd_b (x := a1) (p := 2) ht (by omega)
  have b8 := psd_b (x := a1) (p := 3) ht (by omega)
  have b9 := psd_b (x := a1) (p := 1) ht (by omega)
  have b11 := rot_b (x := a1) ht
  have b14 := lod_b (x := a1) (d := a3) ht
  (try have e14 : a2 = 14 := by omega)
  (try subst a2)
  first
    | omega
    | (refine ⟨ht, by omega, by omega⟩)
    | (refine ⟨ht, by omega, by omega, by omega⟩)
    | (unfold wkp; first | rw [if_pos (by omega)] | rw [if_neg (by omega)])
    | (rw [i32_tm2 (by omega) (by omega) (by omega)]; first | rfl | rw [wdo_5, if_pos (by omega)] | rw [wdo_5, if_neg (by omega)])
    | (have hm := i32_mul (x := a1) (n := a3) h0 (by omega) (by omega) (by omega); rw [i32_tm2 hm.2.1 hm.2.2 (by omega)]; rfl)
    | (rw [i32_tm (by omega) (by omega) (by omega)]; rfl)
    | (exact i32_tm b7.1 (Int.lt_of_le_of_lt b7.2 (by decide)) (by omega))
    | (exact i32_tm b8.1 (Int.lt_of_le_of_lt b8.2 (by decide)) (by omega))
    | (exact i32_tm b9.1 (Int.lt_of_le_of_lt b9.2 (by decide)) (by omega))
    | (subst e14; rw [i32_tm (by omega) (by omega) (by omega)]; rfl)
    | (rw [tdiv_n h0, i32_tm2 (by omega) (by omega) (by omega), wdo_10, if_pos (by rw [i32_hv h0] at *; omega)])
    | (rw [i32_tm (by omega) (by omega) (by omega), wdo_10, if_neg (by rw [i32_hv h0] at *; omega)])
theorem vX3_does_29 (s : MS) (a1 : Int) (a2 : Int) (a3 : Int) (hp : tOK (s.2 6) ∧ 0 ≤ a1 ∧ a1 < (s.2 6) 2 ∧ (0 ≤ (s.1 25) ∧ (s.1 25) < (s.2 6) 2) ∧ wOK ((s.2 6) 0) a2 a3) (c_25 : a2 = 7) (o_26 : (tOK (s.2 6) ∧ 0 ≤ a1 ∧ a1 ≤ 100000 ∧ ((2 : Int) = 1 ∨ (2 : Int) = 2 ∨ (2 : Int) = 3))) : (s.2 6 2) ≠ 0 := by
  obtain ⟨ht, h0, h1, hk, hw, hn⟩ := hp
  have hN := tOK_N ht
  have b0 := dnv_b (x := a1) ht
  have b1 := upv_b (x := a1) ht
  have b2 := trn_b (x := a1) ht
  have b7 := psd_b (x := a1) (p := 2) ht (by omega)
  have b8 := psd_b (x := a1) (p := 3) ht (by omega)
  have b9 := psd_b (x := a1) (p := 1) ht (by omega)
  have b11 := rot_b (x := a1) ht
  have b14 := lod_b (x := a1) (d := a3) ht
  (try have e14 : a2 = 14 := by omega)
  (try subst a2)
  first
    | omega
    | (refine ⟨ht, by omega, by omega⟩)
    | (refine ⟨ht, by omega, by omega, by omega⟩)
    | (unfold wkp; first | rw [if_pos (by omega)] | rw [if_neg (by omega)])
    | (rw [i32_tm2 (by omega) (by omega) (by omega)]; first | rfl | rw [wdo_5, if_pos (by omega)] | rw [wdo_5, if_neg (by omega)])
    | (have hm := i32_mul (x := a1) (n := a3) h0 (by omega) (by omega) (by omega); rw [i32_tm2 hm.2.1 hm.2.2 (by omega)]; rfl)
    | (rw [i32_tm (by omega) (by omega) (by omega)]; rfl)
    | (exact i32_tm b7.1 (Int.lt_of_le_of_lt b7.2 (by decide)) (by omega))
    | (exact i32_tm b8.1 (Int.lt_of_le_of_lt b8.2 (by decide)) (by omega))
    | (exact i32_tm b9.1 (Int.lt_of_le_of_lt b9.2 (by decide)) (by omega))
    | (subst e14; rw [i32_tm (by omega) (by omega) (by omega)]; rfl)
    | (rw [tdiv_n h0, i32_tm2 (by omega) (by omega) (by omega), wdo_10, if_pos (by rw [i32_hv h0] at *; omega)])
    | (rw [i32_tm (by omega) (by omega) (by omega), wdo_10, if_neg (by rw [i32_hv h0] at *; omega)])
theorem vX3_does_30 (s : MS) (a1 : Int) (a2 : Int) (a3 : Int) (hp : tOK (s.2 6) ∧ 0 ≤ a1 ∧ a1 < (s.2 6) 2 ∧ (0 ≤ (s.1 25) ∧ (s.1 25) < (s.2 6) 2) ∧ wOK ((s.2 6) 0) a2 a3) (c_25 : a2 = 7) (o_26 : (tOK (s.2 6) ∧ 0 ≤ a1 ∧ a1 ≤ 100000 ∧ ((2 : Int) = 1 ∨ (2 : Int) = 2 ∨ (2 : Int) = 3))) (o_28 : (s.2 6 2) ≠ 0) : (s.1 25) = (wkp (s.1 25) a1 a2) := by
  obtain ⟨ht, h0, h1, hk, hw, hn⟩ := hp
  have hN := tOK_N ht
  have b0 := dnv_b (x := a1) ht
  have b1 := upv_b (x := a1) ht
  have b2 := trn_b (x := a1) ht
  have b7 := psd_b (x := a1) (p := 2) ht (by omega)
  have b8 := psd_b (x := a1) (p := 3) ht (by omega)
  have b9 := psd_b (x := a1) (p := 1) ht (by omega)
  have b11 := rot_b (x := a1) ht
  have b14 := lod_b (x := a1) (d := a3) ht
  (try have e14 : a2 = 14 := by omega)
  (try subst a2)
  first
    | omega
    | (refine ⟨ht, by omega, by omega⟩)
    | (refine ⟨ht, by omega, by omega, by omega⟩)
    | (unfold wkp; first | rw [if_pos (by omega)] | rw [if_neg (by omega)])
    | (rw [i32_tm2 (by omega) (by omega) (by omega)]; first | rfl | rw [wdo_5, if_pos (by omega)] | rw [wdo_5, if_neg (by omega)])
    | (have hm := i32_mul (x := a1) (n := a3) h0 (by omega) (by omega) (by omega); rw [i32_tm2 hm.2.1 hm.2.2 (by omega)]; rfl)
    | (rw [i32_tm (by omega) (by omega) (by omega)]; rfl)
    | (exact i32_tm b7.1 (Int.lt_of_le_of_lt b7.2 (by decide)) (by omega))
    | (exact i32_tm b8.1 (Int.lt_of_le_of_lt b8.2 (by decide)) (by omega))
    | (exact i32_tm b9.1 (Int.lt_of_le_of_lt b9.2 (by decide)) (by omega))
    | (subst e14; rw [i32_tm (by omega) (by omega) (by omega)]; rfl)
    | (rw [tdiv_n h0, i32_tm2 (by omega) (by omega) (by omega), wdo_10, if_pos (by rw [i32_hv h0] at *; omega)])
    | (rw [i32_tm (by omega) (by omega) (by omega), wdo_10, if_neg (by rw [i32_hv h0] at *; omega)])
theorem vX3_does_31 (s : MS) (a1 : Int) (a2 : Int) (a3 : Int) (hp : tOK (s.2 6) ∧ 0 ≤ a1 ∧ a1 < (s.2 6) 2 ∧ (0 ≤ (s.1 25) ∧ (s.1 25) < (s.2 6) 2) ∧ wOK ((s.2 6) 0) a2 a3) (c_25 : a2 = 7) (o_26 : (tOK (s.2 6) ∧ 0 ≤ a1 ∧ a1 ≤ 100000 ∧ ((2 : Int) = 1 ∨ (2 : Int) = 2 ∨ (2 : Int) = 3))) (o_28 : (s.2 6 2) ≠ 0) : (i32 (Int.tmod (psum ((2 : Int)).toNat (dig ((s.2 6) 0) ((s.2 6) 1) a1) ((s.2 6) 1).toNat) (s.2 6 2))) = (wdo (s.2 6) (s.1 25) a1 a2 a3) := by
  obtain ⟨ht, h0, h1, hk, hw, hn⟩ := hp
  have hN := tOK_N ht
  have b0 := dnv_b (x := a1) ht
  have b1 := upv_b (x := a1) ht
  have b2 := trn_b (x := a1) ht
  have b7 := psd_b (x := a1) (p := 2) ht (by omega)
  have b8 := psd_b (x := a1) (p := 3) ht (by omega)
  have b9 := psd_b (x := a1) (p := 1) ht (by omega)
  have b11 := rot_b (x := a1) ht
  have b14 := lod_b (x := a1) (d := a3) ht
  (try have e14 : a2 = 14 := by omega)
  (try subst a2)
  first
    | omega
    | (refine ⟨ht, by omega, by omega⟩)
    | (refine ⟨ht, by omega, by omega, by omega⟩)
    | (unfold wkp; first | rw [if_pos (by omega)] | rw [if_neg (by omega)])
    | (rw [i32_tm2 (by omega) (by omega) (by omega)]; first | rfl | rw [wdo_5, if_pos (by omega)] | rw [wdo_5, if_neg (by omega)])
    | (have hm := i32_mul (x := a1) (n := a3) h0 (by omega) (by omega) (by omega); rw [i32_tm2 hm.2.1 hm.2.2 (by omega)]; rfl)
    | (rw [i32_tm (by omega) (by omega) (by omega)]; rfl)
    | (exact i32_tm b7.1 (Int.lt_of_le_of_lt b7.2 (by decide)) (by omega))
    | (exact i32_tm b8.1 (Int.lt_of_le_of_lt b8.2 (by decide)) (by omega))
    | (exact i32_tm b9.1 (Int.lt_of_le_of_lt b9.2 (by decide)) (by omega))
    | (subst e14; rw [i32_tm (by omega) (by omega) (by omega)]; rfl)
    | (rw [tdiv_n h0, i32_tm2 (by omega) (by omega) (by omega), wdo_10, if_pos (by rw [i32_hv h0] at *; omega)])
    | (rw [i32_tm (by omega) (by omega) (by omega), wdo_10, if_neg (by rw [i32_hv h0] at *; omega)])
theorem vX3_does_32 (s : MS) (a1 : Int) (a2 : Int) (a3 : Int) (hp : tOK (s.2 6) ∧ 0 ≤ a1 ∧ a1 < (s.2 6) 2 ∧ (0 ≤ (s.1 25) ∧ (s.1 25) < (s.2 6) 2) ∧ wOK ((s.2 6) 0) a2 a3) (c_29 : a2 = 8) : (tOK (s.2 6) ∧ 0 ≤ a1 ∧ a1 ≤ 100000 ∧ ((3 : Int) = 1 ∨ (3 : Int) = 2 ∨ (3 : Int) = 3)) := by
  obtain ⟨ht, h0, h1, hk, hw, hn⟩ := hp
  have hN := tOK_N ht
  have b0 := dnv_b (x := a1) ht
  have b1 := upv_b (x := a1) ht
  have b2 := trn_b (x := a1) ht
  have b7 := psd_b (x := a1) (p := 2) ht (by omega)
  have b8 := psd_b (x := a1) (p := 3) ht (by omega)
  have b9 := psd_b (x := a1) (p := 1) ht (by omega)
  have b11 := rot_b (x := a1) ht
  have b14 := lod_b (x := a1) (d := a3) ht
  (try have e14 : a2 = 14 := by omega)
  (try subst a2)
  first
    | omega
    | (refine ⟨ht, by omega, by omega⟩)
    | (refine ⟨ht, by omega, by omega, by omega⟩)
    | (unfold wkp; first | rw [if_pos (by omega)] | rw [if_neg (by omega)])
    | (rw [i32_tm2 (by omega) (by omega) (by omega)]; first | rfl | rw [wdo_5, if_pos (by omega)] | rw [wdo_5, if_neg (by omega)])
    | (have hm := i32_mul (x := a1) (n := a3) h0 (by omega) (by omega) (by omega); rw [i32_tm2 hm.2.1 hm.2.2 (by omega)]; rfl)
    | (rw [i32_tm (by omega) (by omega) (by omega)]; rfl)
    | (exact i32_tm b7.1 (Int.lt_of_le_of_lt b7.2 (by decide)) (by omega))
    | (exact i32_tm b8.1 (Int.lt_of_le_of_lt b8.2 (by decide)) (by omega))
    | (exact i32_tm b9.1 (Int.lt_of_le_of_lt b9.2 (by decide)) (by omega))
    | (subst e14; rw [i32_tm (by omega) (by omega) (by omega)]; rfl)
    | (rw [tdiv_n h0, i32_tm2 (by omega) (by omega) (by omega), wdo_10, if_pos (by rw [i32_hv h0] at *; omega)])
    | (rw [i32_tm (by omega) (by omega) (by omega), wdo_10, if_neg (by rw [i32_hv h0] at *; omega)])
theorem vX3_does_33 (s : MS) (a1 : Int) (a2 : Int) (a3 : Int) (hp : tOK (s.2 6) ∧ 0 ≤ a1 ∧ a1 < (s.2 6) 2 ∧ (0 ≤ (s.1 25) ∧ (s.1 25) < (s.2 6) 2) ∧ wOK ((s.2 6) 0) a2 a3) (c_29 : a2 = 8) (o_30 : (tOK (s.2 6) ∧ 0 ≤ a1 ∧ a1 ≤ 100000 ∧ ((3 : Int) = 1 ∨ (3 : Int) = 2 ∨ (3 : Int) = 3))) : (s.2 6 2) ≠ 0 := by
  obtain ⟨ht, h0, h1, hk, hw, hn⟩ := hp
  have hN := tOK_N ht
  have b0 := dnv_b (x := a1) ht
  have b1 := upv_b (x := a1) ht
  have b2 := trn_b (x := a1) ht
  have b7 := psd_b (x := a1) (p := 2) ht (by omega)
  have b8 := psd_b (x := a1) (p := 3) ht (by omega)
  have b9 := psd_b (x := a1) (p := 1) ht (by omega)
  have b11 := rot_b (x := a1) ht
  have b14 := lod_b (x := a1) (d := a3) ht
  (try have e14 : a2 = 14 := by omega)
  (try subst a2)
  first
    | omega
    | (refine ⟨ht, by omega, by omega⟩)
    | (refine ⟨ht, by omega, by omega, by omega⟩)
    | (unfold wkp; first | rw [if_pos (by omega)] | rw [if_neg (by omega)])
    | (rw [i32_tm2 (by omega) (by omega) (by omega)]; first | rfl | rw [wdo_5, if_pos (by omega)] | rw [wdo_5, if_neg (by omega)])
    | (have hm := i32_mul (x := a1) (n := a3) h0 (by omega) (by omega) (by omega); rw [i32_tm2 hm.2.1 hm.2.2 (by omega)]; rfl)
    | (rw [i32_tm (by omega) (by omega) (by omega)]; rfl)
    | (exact i32_tm b7.1 (Int.lt_of_le_of_lt b7.2 (by decide)) (by omega))
    | (exact i32_tm b8.1 (Int.lt_of_le_of_lt b8.2 (by decide)) (by omega))
    | (exact i32_tm b9.1 (Int.lt_of_le_of_lt b9.2 (by decide)) (by omega))
    | (subst e14; rw [i32_tm (by omega) (by omega) (by omega)]; rfl)
    | (rw [tdiv_n h0, i32_tm2 (by omega) (by omega) (by omega), wdo_10, if_pos (by rw [i32_hv h0] at *; omega)])
    | (rw [i32_tm (by omega) (by omega) (by omega), wdo_10, if_neg (by rw [i32_hv h0] at *; omega)])
theorem vX3_does_34 (s : MS) (a1 : Int) (a2 : Int) (a3 : Int) (hp : tOK (s.2 6) ∧ 0 ≤ a1 ∧ a1 < (s.2 6) 2 ∧ (0 ≤ (s.1 25) ∧ (s.1 25) < (s.2 6) 2) ∧ wOK ((s.2 6) 0) a2 a3) (c_29 : a2 = 8) (o_30 : (tOK (s.2 6) ∧ 0 ≤ a1 ∧ a1 ≤ 100000 ∧ ((3 : Int) = 1 ∨ (3 : Int) = 2 ∨ (3 : Int) = 3))) (o_32 : (s.2 6 2) ≠ 0) : (s.1 25) = (wkp (s.1 25) a1 a2) := by
  obtain ⟨ht, h0, h1, hk, hw, hn⟩ := hp
  have hN := tOK_N ht
  have b0 := dnv_b (x := a1) ht
  have b1 := upv_b (x := a1) ht
  have b2 := trn_b (x := a1) ht
  have b7 := psd_b (x := a1) (p := 2) ht (by omega)
  have b8 := psd_b (x := a1) (p := 3) ht (by omega)
  have b9 := psd_b (x := a1) (p := 1) ht (by omega)
  have b11 := rot_b (x := a1) ht
  have b14 := lod_b (x := a1) (d := a3) ht
  (try have e14 : a2 = 14 := by omega)
  (try subst a2)
  first
    | omega
    | (refine ⟨ht, by omega, by omega⟩)
    | (refine ⟨ht, by omega, by omega, by omega⟩)
    | (unfold wkp; first | rw [if_pos (by omega)] | rw [if_neg (by omega)])
    | (rw [i32_tm2 (by omega) (by omega) (by omega)]; first | rfl | rw [wdo_5, if_pos (by omega)] | rw [wdo_5, if_neg (by omega)])
    | (have hm := i32_mul (x := a1) (n := a3) h0 (by omega) (by omega) (by omega); rw [i32_tm2 hm.2.1 hm.2.2 (by omega)]; rfl)
    | (rw [i32_tm (by omega) (by omega) (by omega)]; rfl)
    | (exact i32_tm b7.1 (Int.lt_of_le_of_lt b7.2 (by decide)) (by omega))
    | (exact i32_tm b8.1 (Int.lt_of_le_of_lt b8.2 (by decide)) (by omega))
    | (exact i32_tm b9.1 (Int.lt_of_le_of_lt b9.2 (by decide)) (by omega))
    | (subst e14; rw [i32_tm (by omega) (by omega) (by omega)]; rfl)
    | (rw [tdiv_n h0, i32_tm2 (by omega) (by omega) (by omega), wdo_10, if_pos (by rw [i32_hv h0] at *; omega)])
    | (rw [i32_tm (by omega) (by omega) (by omega), wdo_10, if_neg (by rw [i32_hv h0] at *; omega)])
theorem vX3_does_35 (s : MS) (a1 : Int) (a2 : Int) (a3 : Int) (hp : tOK (s.2 6) ∧ 0 ≤ a1 ∧ a1 < (s.2 6) 2 ∧ (0 ≤ (s.1 25) ∧ (s.1 25) < (s.2 6) 2) ∧ wOK ((s.2 6) 0) a2 a3) (c_29 : a2 = 8) (o_30 : (tOK (s.2 6) ∧ 0 ≤ a1 ∧ a1 ≤ 100000 ∧ ((3 : Int) = 1 ∨ (3 : Int) = 2 ∨ (3 : Int) = 3))) (o_32 : (s.2 6 2) ≠ 0) : (i32 (Int.tmod (psum ((3 : Int)).toNat (dig ((s.2 6) 0) ((s.2 6) 1) a1) ((s.2 6) 1).toNat) (s.2 6 2))) = (wdo (s.2 6) (s.1 25) a1 a2 a3) := by
  obtain ⟨ht, h0, h1, hk, hw, hn⟩ := hp
  have hN := tOK_N ht
  have b0 := dnv_b (x := a1) ht
  have b1 := upv_b (x := a1) ht
  have b2 := trn_b (x := a1) ht
  have b7 := psd_b (x := a1) (p := 2) ht (by omega)
  have b8 := psd_b (x := a1) (p := 3) ht (by omega)
  have b9 := psd_b (x := a1) (p := 1) ht (by omega)
  have b11 := rot_b (x := a1) ht
  have b14 := lod_b (x := a1) (d := a3) ht
  (try have e14 : a2 = 14 := by omega)
  (try subst a2)
  first
    | omega
    | (refine ⟨ht, by omega, by omega⟩)
    | (refine ⟨ht, by omega, by omega, by omega⟩)
    | (unfold wkp; first | rw [if_pos (by omega)] | rw [if_neg (by omega)])
    | (rw [i32_tm2 (by omega) (by omega) (by omega)]; first | rfl | rw [wdo_5, if_pos (by omega)] | rw [wdo_5, if_neg (by omega)])
    | (have hm := i32_mul (x := a1) (n := a3) h0 (by omega) (by omega) (by omega); rw [i32_tm2 hm.2.1 hm.2.2 (by omega)]; rfl)
    | (rw [i32_tm (by omega) (by omega) (by omega)]; rfl)
    | (exact i32_tm b7.1 (Int.lt_of_le_of_lt b7.2 (by decide)) (by omega))
    | (exact i32_tm b8.1 (Int.lt_of_le_of_lt b8.2 (by decide)) (by omega))
    | (exact i32_tm b9.1 (Int.lt_of_le_of_lt b9.2 (by decide)) (by omega))
    | (subst e14; rw [i32_tm (by omega) (by omega) (by omega)]; rfl)
    | (rw [tdiv_n h0, i32_tm2 (by omega) (by omega) (by omega), wdo_10, if_pos (by rw [i32_hv h0] at *; omega)])
    | (rw [i32_tm (by omega) (by omega) (by omega), wdo_10, if_neg (by rw [i32_hv h0] at *; omega)])
theorem vX3_does_36 (s : MS) (a1 : Int) (a2 : Int) (a3 : Int) (hp : tOK (s.2 6) ∧ 0 ≤ a1 ∧ a1 < (s.2 6) 2 ∧ (0 ≤ (s.1 25) ∧ (s.1 25) < (s.2 6) 2) ∧ wOK ((s.2 6) 0) a2 a3) (c_33 : a2 = 9) : (tOK (s.2 6) ∧ 0 ≤ a1 ∧ a1 ≤ 100000 ∧ ((1 : Int) = 1 ∨ (1 : Int) = 2 ∨ (1 : Int) = 3)) := by
  obtain ⟨ht, h0, h1, hk, hw, hn⟩ := hp
  have hN := tOK_N ht
  have b0 := dnv_b (x := a1) ht
  have b1 := upv_b (x := a1) ht
  have b2 := trn_b (x := a1) ht
  have b7 := psd_b (x := a1) (p := 2) ht (by omega)
  have b8 := psd_b (x := a1) (p := 3) ht (by omega)
  have b9 := psd_b (x := a1) (p := 1) ht (by omega)
  have b11 := rot_b (x := a1) ht
  have b14 := lod_b (x := a1) (d := a3) ht
  (try have e14 : a2 = 14 := by omega)
  (try subst a2)
  first
    | omega
    | (refine ⟨ht, by omega, by omega⟩)
    | (refine ⟨ht, by omega, by omega, by omega⟩)
    | (unfold wkp; first | rw [if_pos (by omega)] | rw [if_neg (by omega)])
    | (rw [i32_tm2 (by omega) (by omega) (by omega)]; first | rfl | rw [wdo_5, if_pos (by omega)] | rw [wdo_5, if_neg (by omega)])
    | (have hm := i32_mul (x := a1) (n := a3) h0 (by omega) (by omega) (by omega); rw [i32_tm2 hm.2.1 hm.2.2 (by omega)]; rfl)
    | (rw [i32_tm (by omega) (by omega) (by omega)]; rfl)
    | (exact i32_tm b7.1 (Int.lt_of_le_of_lt b7.2 (by decide)) (by omega))
    | (exact i32_tm b8.1 (Int.lt_of_le_of_lt b8.2 (by decide)) (by omega))
    | (exact i32_tm b9.1 (Int.lt_of_le_of_lt b9.2 (by decide)) (by omega))
    | (subst e14; rw [i32_tm (by omega) (by omega) (by omega)]; rfl)
    | (rw [tdiv_n h0, i32_tm2 (by omega) (by omega) (by omega), wdo_10, if_pos (by rw [i32_hv h0] at *; omega)])
    | (rw [i32_tm (by omega) (by omega) (by omega), wdo_10, if_neg (by rw [i32_hv h0] at *; omega)])
theorem vX3_does_37 (s : MS) (a1 : Int) (a2 : Int) (a3 : Int) (hp : tOK (s.2 6) ∧ 0 ≤ a1 ∧ a1 < (s.2 6) 2 ∧ (0 ≤ (s.1 25) ∧ (s.1 25) < (s.2 6) 2) ∧ wOK ((s.2 6) 0) a2 a3) (c_33 : a2 = 9) (o_34 : (tOK (s.2 6) ∧ 0 ≤ a1 ∧ a1 ≤ 100000 ∧ ((1 : Int) = 1 ∨ (1 : Int) = 2 ∨ (1 : Int) = 3))) : (s.2 6 2) ≠ 0 := by
  obtain ⟨ht, h0, h1, hk, hw, hn⟩ := hp
  have hN := tOK_N ht
  have b0 := dnv_b (x := a1) ht
  have b1 := upv_b (x := a1) ht
  have b2 := trn_b (x := a1) ht
  have b7 := psd_b (x := a1) (p := 2) ht (by omega)
  have b8 := psd_b (x := a1) (p := 3) ht (by omega)
  have b9 := psd_b (x := a1) (p := 1) ht (by omega)
  have b11 := rot_b (x := a1) ht
  have b14 := lod_b (x := a1) (d := a3) ht
  (try have e14 : a2 = 14 := by omega)
  (try subst a2)
  first
    | omega
    | (refine ⟨ht, by omega, by omega⟩)
    | (refine ⟨ht, by omega, by omega, by omega⟩)
    | (unfold wkp; first | rw [if_pos (by omega)] | rw [if_neg (by omega)])
    | (rw [i32_tm2 (by omega) (by omega) (by omega)]; first | rfl | rw [wdo_5, if_pos (by omega)] | rw [wdo_5, if_neg (by omega)])
    | (have hm := i32_mul (x := a1) (n := a3) h0 (by omega) (by omega) (by omega); rw [i32_tm2 hm.2.1 hm.2.2 (by omega)]; rfl)
    | (rw [i32_tm (by omega) (by omega) (by omega)]; rfl)
    | (exact i32_tm b7.1 (Int.lt_of_le_of_lt b7.2 (by decide)) (by omega))
    | (exact i32_tm b8.1 (Int.lt_of_le_of_lt b8.2 (by decide)) (by omega))
    | (exact i32_tm b9.1 (Int.lt_of_le_of_lt b9.2 (by decide)) (by omega))
    | (subst e14; rw [i32_tm (by omega) (by omega) (by omega)]; rfl)
    | (rw [tdiv_n h0, i32_tm2 (by omega) (by omega) (by omega), wdo_10, if_pos (by rw [i32_hv h0] at *; omega)])
    | (rw [i32_tm (by omega) (by omega) (by omega), wdo_10, if_neg (by rw [i32_hv h0] at *; omega)])
theorem vX3_does_38 (s : MS) (a1 : Int) (a2 : Int) (a3 : Int) (hp : tOK (s.2 6) ∧ 0 ≤ a1 ∧ a1 < (s.2 6) 2 ∧ (0 ≤ (s.1 25) ∧ (s.1 25) < (s.2 6) 2) ∧ wOK ((s.2 6) 0) a2 a3) (c_33 : a2 = 9) (o_34 : (tOK (s.2 6) ∧ 0 ≤ a1 ∧ a1 ≤ 100000 ∧ ((1 : Int) = 1 ∨ (1 : Int) = 2 ∨ (1 : Int) = 3))) (o_36 : (s.2 6 2) ≠ 0) : (s.1 25) = (wkp (s.1 25) a1 a2) := by
  obtain ⟨ht, h0, h1, hk, hw, hn⟩ := hp
  have hN := tOK_N ht
  have b0 := dnv_b (x := a1) ht
  have b1 := upv_b (x := a1) ht
  have b2 := trn_b (x := a1) ht
  have b7 := psd_b (x := a1) (p := 2) ht (by omega)
  have b8 := psd_b (x := a1) (p := 3) ht (by omega)
  have b9 := psd_b (x := a1) (p := 1) ht (by omega)
  have b11 := rot_b (x := a1) ht
  have b14 := lod_b (x := a1) (d := a3) ht
  (try have e14 : a2 = 14 := by omega)
  (try subst a2)
  first
    | omega
    | (refine ⟨ht, by omega, by omega⟩)
    | (refine ⟨ht, by omega, by omega, by omega⟩)
    | (unfold wkp; first | rw [if_pos (by omega)] | rw [if_neg (by omega)])
    | (rw [i32_tm2 (by omega) (by omega) (by omega)]; first | rfl | rw [wdo_5, if_pos (by omega)] | rw [wdo_5, if_neg (by omega)])
    | (have hm := i32_mul (x := a1) (n := a3) h0 (by omega) (by omega) (by omega); rw [i32_tm2 hm.2.1 hm.2.2 (by omega)]; rfl)
    | (rw [i32_tm (by omega) (by omega) (by omega)]; rfl)
    | (exact i32_tm b7.1 (Int.lt_of_le_of_lt b7.2 (by decide)) (by omega))
    | (exact i32_tm b8.1 (Int.lt_of_le_of_lt b8.2 (by decide)) (by omega))
    | (exact i32_tm b9.1 (Int.lt_of_le_of_lt b9.2 (by decide)) (by omega))
    | (subst e14; rw [i32_tm (by omega) (by omega) (by omega)]; rfl)
    | (rw [tdiv_n h0, i32_tm2 (by omega) (by omega) (by omega), wdo_10, if_pos (by rw [i32_hv h0] at *; omega)])
    | (rw [i32_tm (by omega) (by omega) (by omega), wdo_10, if_neg (by rw [i32_hv h0] at *; omega)])
theorem vX3_does_39 (s : MS) (a1 : Int) (a2 : Int) (a3 : Int) (hp : tOK (s.2 6) ∧ 0 ≤ a1 ∧ a1 < (s.2 6) 2 ∧ (0 ≤ (s.1 25) ∧ (s.1 25) < (s.2 6) 2) ∧ wOK ((s.2 6) 0) a2 a3) (c_33 : a2 = 9) (o_34 : (tOK (s.2 6) ∧ 0 ≤ a1 ∧ a1 ≤ 100000 ∧ ((1 : Int) = 1 ∨ (1 : Int) = 2 ∨ (1 : Int) = 3))) (o_36 : (s.2 6 2) ≠ 0) : (i32 (Int.tmod (psum ((1 : Int)).toNat (dig ((s.2 6) 0) ((s.2 6) 1) a1) ((s.2 6) 1).toNat) (s.2 6 2))) = (wdo (s.2 6) (s.1 25) a1 a2 a3) := by
  obtain ⟨ht, h0, h1, hk, hw, hn⟩ := hp
  have hN := tOK_N ht
  have b0 := dnv_b (x := a1) ht
  have b1 := upv_b (x := a1) ht
  have b2 := trn_b (x := a1) ht
  have b7 := psd_b (x := a1) (p := 2) ht (by omega)
  have b8 := psd_b (x := a1) (p := 3) ht (by omega)
  have b9 := psd_b (x := a1) (p := 1) ht (by omega)
  have b11 := rot_b (x := a1) ht
  have b14 := lod_b (x := a1) (d := a3) ht
  (try have e14 : a2 = 14 := by omega)
  (try subst a2)
  first
    | omega
    | (refine ⟨ht, by omega, by omega⟩)
    | (refine ⟨ht, by omega, by omega, by omega⟩)
    | (unfold wkp; first | rw [if_pos (by omega)] | rw [if_neg (by omega)])
    | (rw [i32_tm2 (by omega) (by omega) (by omega)]; first | rfl | rw [wdo_5, if_pos (by omega)] | rw [wdo_5, if_neg (by omega)])
    | (have hm := i32_mul (x := a1) (n := a3) h0 (by omega) (by omega) (by omega); rw [i32_tm2 hm.2.1 hm.2.2 (by omega)]; rfl)
    | (rw [i32_tm (by omega) (by omega) (by omega)]; rfl)
    | (exact i32_tm b7.1 (Int.lt_of_le_of_lt b7.2 (by decide)) (by omega))
    | (exact i32_tm b8.1 (Int.lt_of_le_of_lt b8.2 (by decide)) (by omega))
    | (exact i32_tm b9.1 (Int.lt_of_le_of_lt b9.2 (by decide)) (by omega))
    | (subst e14; rw [i32_tm (by omega) (by omega) (by omega)]; rfl)
    | (rw [tdiv_n h0, i32_tm2 (by omega) (by omega) (by omega), wdo_10, if_pos (by rw [i32_hv h0] at *; omega)])
    | (rw [i32_tm (by omega) (by omega) (by omega), wdo_10, if_neg (by rw [i32_hv h0] at *; omega)])
theorem vX3_does_40 (s : MS) (a1 : Int) (a2 : Int) (a3 : Int) (hp : tOK (s.2 6) ∧ 0 ≤ a1 ∧ a1 < (s.2 6) 2 ∧ (0 ≤ (s.1 25) ∧ (s.1 25) < (s.2 6) 2) ∧ wOK ((s.2 6) 0) a2 a3) (c_37 : a2 = 10) (c_38 : ¬ (i32 (Int.tmod a1 2)) = 0) : (s.2 6 2) ≠ 0 := by
  obtain ⟨ht, h0, h1, hk, hw, hn⟩ := hp
  have hN := tOK_N ht
  have b0 := dnv_b (x := a1) ht
  have b1 := upv_b (x := a1) ht
  have b2 := trn_b (x := a1) ht
  have b7 := psd_b (x := a1) (p := 2) ht (by omega)
  have b8 := psd_b (x := a1) (p := 3) ht (by omega)
  have b9 := psd_b (x := a1) (p := 1) ht (by omega)
  have b11 := rot_b (x := a1) ht
  have b14 := lod_b (x := a1) (d := a3) ht
  (try have e14 : a2 = 14 := by omega)
  (try subst a2)
  first
    | omega
    | (refine ⟨ht, by omega, by omega⟩)
    | (refine ⟨ht, by omega, by omega, by omega⟩)
    | (unfold wkp; first | rw [if_pos (by omega)] | rw [if_neg (by omega)])
    | (rw [i32_tm2 (by omega) (by omega) (by omega)]; first | rfl | rw [wdo_5, if_pos (by omega)] | rw [wdo_5, if_neg (by omega)])
    | (have hm := i32_mul (x := a1) (n := a3) h0 (by omega) (by omega) (by omega); rw [i32_tm2 hm.2.1 hm.2.2 (by omega)]; rfl)
    | (rw [i32_tm (by omega) (by omega) (by omega)]; rfl)
    | (exact i32_tm b7.1 (Int.lt_of_le_of_lt b7.2 (by decide)) (by omega))
    | (exact i32_tm b8.1 (Int.lt_of_le_of_lt b8.2 (by decide)) (by omega))
    | (exact i32_tm b9.1 (Int.lt_of_le_of_lt b9.2 (by decide)) (by omega))
    | (subst e14; rw [i32_tm (by omega) (by omega) (by omega)]; rfl)
    | (rw [tdiv_n h0, i32_tm2 (by omega) (by omega) (by omega), wdo_10, if_pos (by rw [i32_hv h0] at *; omega)])
    | (rw [i32_tm (by omega) (by omega) (by omega), wdo_10, if_neg (by rw [i32_hv h0] at *; omega)])
theorem vX3_does_41 (s : MS) (a1 : Int) (a2 : Int) (a3 : Int) (hp : tOK (s.2 6) ∧ 0 ≤ a1 ∧ a1 < (s.2 6) 2 ∧ (0 ≤ (s.1 25) ∧ (s.1 25) < (s.2 6) 2) ∧ wOK ((s.2 6) 0) a2 a3) (c_37 : a2 = 10) (c_38 : ¬ (i32 (Int.tmod a1 2)) = 0) (o_39 : (s.2 6 2) ≠ 0) : (s.1 25) = (wkp (s.1 25) a1 a2) := by
  obtain ⟨ht, h0, h1, hk, hw, hn⟩ := hp
  have hN := tOK_N ht
  have b0 := dnv_b (x := a1) ht
  have b1 := upv_b (x := a1) ht
  have b2 := trn_b (x := a1) ht
  have b7 := psd_b (x := a1) (p := 2) ht (by omega)
  have b8 := psd_b (x := a1) (p := 3) ht (by omega)
  have b9 := psd_b (x := a1) (p := 1) ht (by omega)
  have b11 := rot_b (x := a1) ht
  have b14 := lod_b (x := a1) (d := a3) ht
  (try have e14 : a2 = 14 := by omega)
  (try subst a2)
  first
    | omega
    | (refine ⟨ht, by omega, by omega⟩)
    | (refine ⟨ht, by omega, by omega, by omega⟩)
    | (unfold wkp; first | rw [if_pos (by omega)] | rw [if_neg (by omega)])
    | (rw [i32_tm2 (by omega) (by omega) (by omega)]; first | rfl | rw [wdo_5, if_pos (by omega)] | rw [wdo_5, if_neg (by omega)])
    | (have hm := i32_mul (x := a1) (n := a3) h0 (by omega) (by omega) (by omega); rw [i32_tm2 hm.2.1 hm.2.2 (by omega)]; rfl)
    | (rw [i32_tm (by omega) (by omega) (by omega)]; rfl)
    | (exact i32_tm b7.1 (Int.lt_of_le_of_lt b7.2 (by decide)) (by omega))
    | (exact i32_tm b8.1 (Int.lt_of_le_of_lt b8.2 (by decide)) (by omega))
    | (exact i32_tm b9.1 (Int.lt_of_le_of_lt b9.2 (by decide)) (by omega))
    | (subst e14; rw [i32_tm (by omega) (by omega) (by omega)]; rfl)
    | (rw [tdiv_n h0, i32_tm2 (by omega) (by omega) (by omega), wdo_10, if_pos (by rw [i32_hv h0] at *; omega)])
    | (rw [i32_tm (by omega) (by omega) (by omega), wdo_10, if_neg (by rw [i32_hv h0] at *; omega)])
theorem vX3_does_42 (s : MS) (a1 : Int) (a2 : Int) (a3 : Int) (hp : tOK (s.2 6) ∧ 0 ≤ a1 ∧ a1 < (s.2 6) 2 ∧ (0 ≤ (s.1 25) ∧ (s.1 25) < (s.2 6) 2) ∧ wOK ((s.2 6) 0) a2 a3) (c_37 : a2 = 10) (c_38 : ¬ (i32 (Int.tmod a1 2)) = 0) (o_39 : (s.2 6 2) ≠ 0) : (i32 (Int.tmod a1 (s.2 6 2))) = (wdo (s.2 6) (s.1 25) a1 a2 a3) := by
  obtain ⟨ht, h0, h1, hk, hw, hn⟩ := hp
  have hN := tOK_N ht
  have b0 := dnv_b (x := a1) ht
  have b1 := upv_b (x := a1) ht
  have b2 := trn_b (x := a1) ht
  have b7 := psd_b (x := a1) (p := 2) ht (by omega)
  have b8 := psd_b (x := a1) (p := 3) ht (by omega)
  have b9 := psd_b (x := a1) (p := 1) ht (by omega)
  have b11 := rot_b (x := a1) ht
  have b14 := lod_b (x := a1) (d := a3) ht
  (try have e14 : a2 = 14 := by omega)
  (try subst a2)
  first
    | omega
    | (refine ⟨ht, by omega, by omega⟩)
    | (refine ⟨ht, by omega, by omega, by omega⟩)
    | (unfold wkp; first | rw [if_pos (by omega)] | rw [if_neg (by omega)])
    | (rw [i32_tm2 (by omega) (by omega) (by omega)]; first | rfl | rw [wdo_5, if_pos (by omega)] | rw [wdo_5, if_neg (by omega)])
    | (have hm := i32_mul (x := a1) (n := a3) h0 (by omega) (by omega) (by omega); rw [i32_tm2 hm.2.1 hm.2.2 (by omega)]; rfl)
    | (rw [i32_tm (by omega) (by omega) (by omega)]; rfl)
    | (exact i32_tm b7.1 (Int.lt_of_le_of_lt b7.2 (by decide)) (by omega))
    | (exact i32_tm b8.1 (Int.lt_of_le_of_lt b8.2 (by decide)) (by omega))
    | (exact i32_tm b9.1 (Int.lt_of_le_of_lt b9.2 (by decide)) (by omega))
    | (subst e14; rw [i32_tm (by omega) (by omega) (by omega)]; rfl)
    | (rw [tdiv_n h0, i32_tm2 (by omega) (by omega) (by omega), wdo_10, if_pos (by rw [i32_hv h0] at *; omega)])
    | (rw [i32_tm (by omega) (by omega) (by omega), wdo_10, if_neg (by rw [i32_hv h0] at *; omega)])
theorem vX3_does_43 (s : MS) (a1 : Int) (a2 : Int) (a3 : Int) (hp : tOK (s.2 6) ∧ 0 ≤ a1 ∧ a1 < (s.2 6) 2 ∧ (0 ≤ (s.1 25) ∧ (s.1 25) < (s.2 6) 2) ∧ wOK ((s.2 6) 0) a2 a3) (c_37 : a2 = 10) (c_38 : (i32 (Int.tmod a1 2)) = 0) : (s.2 6 2) ≠ 0 := by
  obtain ⟨ht, h0, h1, hk, hw, hn⟩ := hp
  have hN := tOK_N ht
  have b0 := dnv_b (x := a1) ht
  have b1 := upv_b (x := a1) ht
  have b2 := trn_b (x := a1) ht
  have b7 := psd_b (x := a1) (p := 2) ht (by omega)
  have b8 := psd_b (x := a1) (p := 3) ht (by omega)
  have b9 := psd_b (x := a1) (p := 1) ht (by omega)
  have b11 := rot_b (x := a1) ht
  have b14 := lod_b (x := a1) (d := a3) ht
  (try have e14 : a2 = 14 := by omega)
  (try subst a2)
  first
    | omega
    | (refine ⟨ht, by omega, by omega⟩)
    | (refine ⟨ht, by omega, by omega, by omega⟩)
    | (unfold wkp; first | rw [if_pos (by omega)] | rw [if_neg (by omega)])
    | (rw [i32_tm2 (by omega) (by omega) (by omega)]; first | rfl | rw [wdo_5, if_pos (by omega)] | rw [wdo_5, if_neg (by omega)])
    | (have hm := i32_mul (x := a1) (n := a3) h0 (by omega) (by omega) (by omega); rw [i32_tm2 hm.2.1 hm.2.2 (by omega)]; rfl)
    | (rw [i32_tm (by omega) (by omega) (by omega)]; rfl)
    | (exact i32_tm b7.1 (Int.lt_of_le_of_lt b7.2 (by decide)) (by omega))
    | (exact i32_tm b8.1 (Int.lt_of_le_of_lt b8.2 (by decide)) (by omega))
    | (exact i32_tm b9.1 (Int.lt_of_le_of_lt b9.2 (by decide)) (by omega))
    | (subst e14; rw [i32_tm (by omega) (by omega) (by omega)]; rfl)
    | (rw [tdiv_n h0, i32_tm2 (by omega) (by omega) (by omega), wdo_10, if_pos (by rw [i32_hv h0] at *; omega)])
    | (rw [i32_tm (by omega) (by omega) (by omega), wdo_10, if_neg (by rw [i32_hv h0] at *; omega)])
theorem vX3_does_44 (s : MS) (a1 : Int) (a2 : Int) (a3 : Int) (hp : tOK (s.2 6) ∧ 0 ≤ a1 ∧ a1 < (s.2 6) 2 ∧ (0 ≤ (s.1 25) ∧ (s.1 25) < (s.2 6) 2) ∧ wOK ((s.2 6) 0) a2 a3) (c_37 : a2 = 10) (c_38 : (i32 (Int.tmod a1 2)) = 0) (o_40 : (s.2 6 2) ≠ 0) : (s.1 25) = (wkp (s.1 25) a1 a2) := by
  obtain ⟨ht, h0, h1, hk, hw, hn⟩ := hp
  have hN := tOK_N ht
  have b0 := dnv_b (x := a1) ht
  have b1 := upv_b (x := a1) ht
  have b2 := trn_b (x := a1) ht
  have b7 := psd_b (x := a1) (p := 2) ht (by omega)
  have b8 := psd_b (x := a1) (p := 3) ht (by omega)
  have b9 := psd_b (x := a1) (p := 1) ht (by omega)
  have b11 := rot_b (x := a1) ht
  have b14 := lod_b (x := a1) (d := a3) ht
  (try have e14 : a2 = 14 := by omega)
  (try subst a2)
  first
    | omega
    | (refine ⟨ht, by omega, by omega⟩)
    | (refine ⟨ht, by omega, by omega, by omega⟩)
    | (unfold wkp; first | rw [if_pos (by omega)] | rw [if_neg (by omega)])
    | (rw [i32_tm2 (by omega) (by omega) (by omega)]; first | rfl | rw [wdo_5, if_pos (by omega)] | rw [wdo_5, if_neg (by omega)])
    | (have hm := i32_mul (x := a1) (n := a3) h0 (by omega) (by omega) (by omega); rw [i32_tm2 hm.2.1 hm.2.2 (by omega)]; rfl)
    | (rw [i32_tm (by omega) (by omega) (by omega)]; rfl)
    | (exact i32_tm b7.1 (Int.lt_of_le_of_lt b7.2 (by decide)) (by omega))
    | (exact i32_tm b8.1 (Int.lt_of_le_of_lt b8.2 (by decide)) (by omega))
    | (exact i32_tm b9.1 (Int.lt_of_le_of_lt b9.2 (by decide)) (by omega))
    | (subst e14; rw [i32_tm (by omega) (by omega) (by omega)]; rfl)
    | (rw [tdiv_n h0, i32_tm2 (by omega) (by omega) (by omega), wdo_10, if_pos (by rw [i32_hv h0] at *; omega)])
    | (rw [i32_tm (by omega) (by omega) (by omega), wdo_10, if_neg (by rw [i32_hv h0] at *; omega)])
theorem vX3_does_45 (s : MS) (a1 : Int) (a2 : Int) (a3 : Int) (hp : tOK (s.2 6) ∧ 0 ≤ a1 ∧ a1 < (s.2 6) 2 ∧ (0 ≤ (s.1 25) ∧ (s.1 25) < (s.2 6) 2) ∧ wOK ((s.2 6) 0) a2 a3) (c_37 : a2 = 10) (c_38 : (i32 (Int.tmod a1 2)) = 0) (o_40 : (s.2 6 2) ≠ 0) : (i32 (Int.tmod (i32 (Int.tdiv a1 2)) (s.2 6 2))) = (wdo (s.2 6) (s.1 25) a1 a2 a3) := by
  obtain ⟨ht, h0, h1, hk, hw, hn⟩ := hp
  have hN := tOK_N ht
  have b0 := dnv_b (x := a1) ht
  have b1 := upv_b (x := a1) ht
  have b2 := trn_b (x := a1) ht
  have b7 := psd_b (x := a1) (p := 2) ht (by omega)
  have b8 := psd_b (x := a1) (p := 3) ht (by omega)
  have b9 := psd_b (x := a1) (p := 1) ht (by omega)
  have b11 := rot_b (x := a1) ht
  have b14 := lod_b (x := a1) (d := a3) ht
  (try have e14 : a2 = 14 := by omega)
  (try subst a2)
  first
    | omega
    | (refine ⟨ht, by omega, by omega⟩)
    | (refine ⟨ht, by omega, by omega, by omega⟩)
    | (unfold wkp; first | rw [if_pos (by omega)] | rw [if_neg (by omega)])
    | (rw [i32_tm2 (by omega) (by omega) (by omega)]; first | rfl | rw [wdo_5, if_pos (by omega)] | rw [wdo_5, if_neg (by omega)])
    | (have hm := i32_mul (x := a1) (n := a3) h0 (by omega) (by omega) (by omega); rw [i32_tm2 hm.2.1 hm.2.2 (by omega)]; rfl)
    | (rw [i32_tm (by omega) (by omega) (by omega)]; rfl)
    | (exact i32_tm b7.1 (Int.lt_of_le_of_lt b7.2 (by decide)) (by omega))
    | (exact i32_tm b8.1 (Int.lt_of_le_of_lt b8.2 (by decide)) (by omega))
    | (exact i32_tm b9.1 (Int.lt_of_le_of_lt b9.2 (by decide)) (by omega))
    | (subst e14; rw [i32_tm (by omega) (by omega) (by omega)]; rfl)
    | (rw [tdiv_n h0, i32_tm2 (by omega) (by omega) (by omega), wdo_10, if_pos (by rw [i32_hv h0] at *; omega)])
    | (rw [i32_tm (by omega) (by omega) (by omega), wdo_10, if_neg (by rw [i32_hv h0] at *; omega)])
theorem vX3_does_46 (s : MS) (a1 : Int) (a2 : Int) (a3 : Int) (hp : tOK (s.2 6) ∧ 0 ≤ a1 ∧ a1 < (s.2 6) 2 ∧ (0 ≤ (s.1 25) ∧ (s.1 25) < (s.2 6) 2) ∧ wOK ((s.2 6) 0) a2 a3) (c_41 : a2 = 11) : (tOK (s.2 6) ∧ 0 ≤ a1 ∧ a1 ≤ 100000) := by
  obtain ⟨ht, h0, h1, hk, hw, hn⟩ := hp
  have hN := tOK_N ht
  have b0 := dnv_b (x := a1) ht
  have b1 := upv_b (x := a1) ht
  have b2 := trn_b (x := a1) ht
  have b7 := psd_b (x := a1) (p := 2) ht (by omega)
  have b8 := psd_b (x := a1) (p := 3) ht (by omega)
  have b9 := psd_b (x := a1) (p := 1) ht (by omega)
  have b11 := rot_b (x := a1) ht
  have b14 := lod_b (x := a1) (d := a3) ht
  (try have e14 : a2 = 14 := by omega)
  (try subst a2)
  first
    | omega
    | (refine ⟨ht, by omega, by omega⟩)
    | (refine ⟨ht, by omega, by omega, by omega⟩)
    | (unfold wkp; first | rw [if_pos (by omega)] | rw [if_neg (by omega)])
    | (rw [i32_tm2 (by omega) (by omega) (by omega)]; first | rfl | rw [wdo_5, if_pos (by omega)] | rw [wdo_5, if_neg (by omega)])
    | (have hm := i32_mul (x := a1) (n := a3) h0 (by omega) (by omega) (by omega); rw [i32_tm2 hm.2.1 hm.2.2 (by omega)]; rfl)
    | (rw [i32_tm (by omega) (by omega) (by omega)]; rfl)
    | (exact i32_tm b7.1 (Int.lt_of_le_of_lt b7.2 (by decide)) (by omega))
    | (exact i32_tm b8.1 (Int.lt_of_le_of_lt b8.2 (by decide)) (by omega))
    | (exact i32_tm b9.1 (Int.lt_of_le_of_lt b9.2 (by decide)) (by omega))
    | (subst e14; rw [i32_tm (by omega) (by omega) (by omega)]; rfl)
    | (rw [tdiv_n h0, i32_tm2 (by omega) (by omega) (by omega), wdo_10, if_pos (by rw [i32_hv h0] at *; omega)])
    | (rw [i32_tm (by omega) (by omega) (by omega), wdo_10, if_neg (by rw [i32_hv h0] at *; omega)])
theorem vX3_does_47 (s : MS) (a1 : Int) (a2 : Int) (a3 : Int) (hp : tOK (s.2 6) ∧ 0 ≤ a1 ∧ a1 < (s.2 6) 2 ∧ (0 ≤ (s.1 25) ∧ (s.1 25) < (s.2 6) 2) ∧ wOK ((s.2 6) 0) a2 a3) (c_41 : a2 = 11) (o_42 : (tOK (s.2 6) ∧ 0 ≤ a1 ∧ a1 ≤ 100000)) : (s.2 6 2) ≠ 0 := by
  obtain ⟨ht, h0, h1, hk, hw, hn⟩ := hp
  have hN := tOK_N ht
  have b0 := dnv_b (x := a1) ht
  have b1 := upv_b (x := a1) ht
  have b2 := trn_b (x := a1) ht
  have b7 := psd_b (x := a1) (p := 2) ht (by omega)
  have b8 := psd_b (x := a1) (p := 3) ht (by omega)
  have b9 := psd_b (x := a1) (p := 1) ht (by omega)
  have b11 := rot_b (x := a1) ht
  have b14 := lod_b (x := a1) (d := a3) ht
  (try have e14 : a2 = 14 := by omega)
  (try subst a2)
  first
    | omega
    | (refine ⟨ht, by omega, by omega⟩)
    | (refine ⟨ht, by omega, by omega, by omega⟩)
    | (unfold wkp; first | rw [if_pos (by omega)] | rw [if_neg (by omega)])
    | (rw [i32_tm2 (by omega) (by omega) (by omega)]; first | rfl | rw [wdo_5, if_pos (by omega)] | rw [wdo_5, if_neg (by omega)])
    | (have hm := i32_mul (x := a1) (n := a3) h0 (by omega) (by omega) (by omega); rw [i32_tm2 hm.2.1 hm.2.2 (by omega)]; rfl)
    | (rw [i32_tm (by omega) (by omega) (by omega)]; rfl)
    | (exact i32_tm b7.1 (Int.lt_of_le_of_lt b7.2 (by decide)) (by omega))
    | (exact i32_tm b8.1 (Int.lt_of_le_of_lt b8.2 (by decide)) (by omega))
    | (exact i32_tm b9.1 (Int.lt_of_le_of_lt b9.2 (by decide)) (by omega))
    | (subst e14; rw [i32_tm (by omega) (by omega) (by omega)]; rfl)
    | (rw [tdiv_n h0, i32_tm2 (by omega) (by omega) (by omega), wdo_10, if_pos (by rw [i32_hv h0] at *; omega)])
    | (rw [i32_tm (by omega) (by omega) (by omega), wdo_10, if_neg (by rw [i32_hv h0] at *; omega)])
theorem vX3_does_48 (s : MS) (a1 : Int) (a2 : Int) (a3 : Int) (hp : tOK (s.2 6) ∧ 0 ≤ a1 ∧ a1 < (s.2 6) 2 ∧ (0 ≤ (s.1 25) ∧ (s.1 25) < (s.2 6) 2) ∧ wOK ((s.2 6) 0) a2 a3) (c_41 : a2 = 11) (o_42 : (tOK (s.2 6) ∧ 0 ≤ a1 ∧ a1 ≤ 100000)) (o_44 : (s.2 6 2) ≠ 0) : (s.1 25) = (wkp (s.1 25) a1 a2) := by
  obtain ⟨ht, h0, h1, hk, hw, hn⟩ := hp
  have hN := tOK_N ht
  have b0 := dnv_b (x := a1) ht
  have b1 := upv_b (x := a1) ht
  have b2 := trn_b (x := a1) ht
  have b7 := psd_b (x := a1) (p := 2) ht (by omega)
  have b8 := psd_b (x := a1) (p := 3) ht (by omega)
  have b9 := psd_b (x := a1) (p := 1) ht (by omega)
  have b11 := rot_b (x := a1) ht
  have b14 := lod_b (x := a1) (d := a3) ht
  (try have e14 : a2 = 14 := by omega)
  (try subst a2)
  first
    | omega
    | (refine ⟨ht, by omega, by omega⟩)
    | (refine ⟨ht, by omega, by omega, by omega⟩)
    | (unfold wkp; first | rw [if_pos (by omega)] | rw [if_neg (by omega)])
    | (rw [i32_tm2 (by omega) (by omega) (by omega)]; first | rfl | rw [wdo_5, if_pos (by omega)] | rw [wdo_5, if_neg (by omega)])
    | (have hm := i32_mul (x := a1) (n := a3) h0 (by omega) (by omega) (by omega); rw [i32_tm2 hm.2.1 hm.2.2 (by omega)]; rfl)
    | (rw [i32_tm (by omega) (by omega) (by omega)]; rfl)
    | (exact i32_tm b7.1 (Int.lt_of_le_of_lt b7.2 (by decide)) (by omega))
    | (exact i32_tm b8.1 (Int.lt_of_le_of_lt b8.2 (by decide)) (by omega))
    | (exact i32_tm b9.1 (Int.lt_of_le_of_lt b9.2 (by decide)) (by omega))
    | (subst e14; rw [i32_tm (by omega) (by omega) (by omega)]; rfl)
    | (rw [tdiv_n h0, i32_tm2 (by omega) (by omega) (by omega), wdo_10, if_pos (by rw [i32_hv h0] at *; omega)])
    | (rw [i32_tm (by omega) (by omega) (by omega), wdo_10, if_neg (by rw [i32_hv h0] at *; omega)])
theorem vX3_does_49 (s : MS) (a1 : Int) (a2 : Int) (a3 : Int) (hp : tOK (s.2 6) ∧ 0 ≤ a1 ∧ a1 < (s.2 6) 2 ∧ (0 ≤ (s.1 25) ∧ (s.1 25) < (s.2 6) 2) ∧ wOK ((s.2 6) 0) a2 a3) (c_41 : a2 = 11) (o_42 : (tOK (s.2 6) ∧ 0 ≤ a1 ∧ a1 ≤ 100000)) (o_44 : (s.2 6 2) ≠ 0) : (i32 (Int.tmod (rot ((s.2 6) 0) ((s.2 6) 1) a1) (s.2 6 2))) = (wdo (s.2 6) (s.1 25) a1 a2 a3) := by
  obtain ⟨ht, h0, h1, hk, hw, hn⟩ := hp
  have hN := tOK_N ht
  have b0 := dnv_b (x := a1) ht
  have b1 := upv_b (x := a1) ht
  have b2 := trn_b (x := a1) ht
  have b7 := psd_b (x := a1) (p := 2) ht (by omega)
  have b8 := psd_b (x := a1) (p := 3) ht (by omega)
  have b9 := psd_b (x := a1) (p := 1) ht (by omega)
  have b11 := rot_b (x := a1) ht
  have b14 := lod_b (x := a1) (d := a3) ht
  (try have e14 : a2 = 14 := by omega)
  (try subst a2)
  first
    | omega
    | (refine ⟨ht, by omega, by omega⟩)
    | (refine ⟨ht, by omega, by omega, by omega⟩)
    | (unfold wkp; first | rw [if_pos (by omega)] | rw [if_neg (by omega)])
    | (rw [i32_tm2 (by omega) (by omega) (by omega)]; first | rfl | rw [wdo_5, if_pos (by omega)] | rw [wdo_5, if_neg (by omega)])
    | (have hm := i32_mul (x := a1) (n := a3) h0 (by omega) (by omega) (by omega); rw [i32_tm2 hm.2.1 hm.2.2 (by omega)]; rfl)
    | (rw [i32_tm (by omega) (by omega) (by omega)]; rfl)
    | (exact i32_tm b7.1 (Int.lt_of_le_of_lt b7.2 (by decide)) (by omega))
    | (exact i32_tm b8.1 (Int.lt_of_le_of_lt b8.2 (by decide)) (by omega))
    | (exact i32_tm b9.1 (Int.lt_of_le_of_lt b9.2 (by decide)) (by omega))
    | (subst e14; rw [i32_tm (by omega) (by omega) (by omega)]; rfl)
    | (rw [tdiv_n h0, i32_tm2 (by omega) (by omega) (by omega), wdo_10, if_pos (by rw [i32_hv h0] at *; omega)])
    | (rw [i32_tm (by omega) (by omega) (by omega), wdo_10, if_neg (by rw [i32_hv h0] at *; omega)])
theorem vX3_does_50 (s : MS) (a1 : Int) (a2 : Int) (a3 : Int) (hp : tOK (s.2 6) ∧ 0 ≤ a1 ∧ a1 < (s.2 6) 2 ∧ (0 ≤ (s.1 25) ∧ (s.1 25) < (s.2 6) 2) ∧ wOK ((s.2 6) 0) a2 a3) (c_45 : a2 = 12) : (s.2 6 2) ≠ 0 := by
  obtain ⟨ht, h0, h1, hk, hw, hn⟩ := hp
  have hN := tOK_N ht
  have b0 := dnv_b (x := a1) ht
  have b1 := upv_b (x := a1) ht
  have b2 := trn_b (x := a1) ht
  have b7 := psd_b (x := a1) (p := 2) ht (by omega)
  have b8 := psd_b (x := a1) (p := 3) ht (by omega)
  have b9 := psd_b (x := a1) (p := 1) ht (by omega)
  have b11 := rot_b (x := a1) ht
  have b14 := lod_b (x := a1) (d := a3) ht
  (try have e14 : a2 = 14 := by omega)
  (try subst a2)
  first
    | omega
    | (refine ⟨ht, by omega, by omega⟩)
    | (refine ⟨ht, by omega, by omega, by omega⟩)
    | (unfold wkp; first | rw [if_pos (by omega)] | rw [if_neg (by omega)])
    | (rw [i32_tm2 (by omega) (by omega) (by omega)]; first | rfl | rw [wdo_5, if_pos (by omega)] | rw [wdo_5, if_neg (by omega)])
    | (have hm := i32_mul (x := a1) (n := a3) h0 (by omega) (by omega) (by omega); rw [i32_tm2 hm.2.1 hm.2.2 (by omega)]; rfl)
    | (rw [i32_tm (by omega) (by omega) (by omega)]; rfl)
    | (exact i32_tm b7.1 (Int.lt_of_le_of_lt b7.2 (by decide)) (by omega))
    | (exact i32_tm b8.1 (Int.lt_of_le_of_lt b8.2 (by decide)) (by omega))
    | (exact i32_tm b9.1 (Int.lt_of_le_of_lt b9.2 (by decide)) (by omega))
    | (subst e14; rw [i32_tm (by omega) (by omega) (by omega)]; rfl)
    | (rw [tdiv_n h0, i32_tm2 (by omega) (by omega) (by omega), wdo_10, if_pos (by rw [i32_hv h0] at *; omega)])
    | (rw [i32_tm (by omega) (by omega) (by omega), wdo_10, if_neg (by rw [i32_hv h0] at *; omega)])
theorem vX3_does_51 (s : MS) (a1 : Int) (a2 : Int) (a3 : Int) (hp : tOK (s.2 6) ∧ 0 ≤ a1 ∧ a1 < (s.2 6) 2 ∧ (0 ≤ (s.1 25) ∧ (s.1 25) < (s.2 6) 2) ∧ wOK ((s.2 6) 0) a2 a3) (c_45 : a2 = 12) (o_46 : (s.2 6 2) ≠ 0) : (s.1 25) = (wkp (s.1 25) a1 a2) := by
  obtain ⟨ht, h0, h1, hk, hw, hn⟩ := hp
  have hN := tOK_N ht
  have b0 := dnv_b (x := a1) ht
  have b1 := upv_b (x := a1) ht
  have b2 := trn_b (x := a1) ht
  have b7 := psd_b (x := a1) (p := 2) ht (by omega)
  have b8 := psd_b (x := a1) (p := 3) ht (by omega)
  have b9 := psd_b (x := a1) (p := 1) ht (by omega)
  have b11 := rot_b (x := a1) ht
  have b14 := lod_b (x := a1) (d := a3) ht
  (try have e14 : a2 = 14 := by omega)
  (try subst a2)
  first
    | omega
    | (refine ⟨ht, by omega, by omega⟩)
    | (refine ⟨ht, by omega, by omega, by omega⟩)
    | (unfold wkp; first | rw [if_pos (by omega)] | rw [if_neg (by omega)])
    | (rw [i32_tm2 (by omega) (by omega) (by omega)]; first | rfl | rw [wdo_5, if_pos (by omega)] | rw [wdo_5, if_neg (by omega)])
    | (have hm := i32_mul (x := a1) (n := a3) h0 (by omega) (by omega) (by omega); rw [i32_tm2 hm.2.1 hm.2.2 (by omega)]; rfl)
    | (rw [i32_tm (by omega) (by omega) (by omega)]; rfl)
    | (exact i32_tm b7.1 (Int.lt_of_le_of_lt b7.2 (by decide)) (by omega))
    | (exact i32_tm b8.1 (Int.lt_of_le_of_lt b8.2 (by decide)) (by omega))
    | (exact i32_tm b9.1 (Int.lt_of_le_of_lt b9.2 (by decide)) (by omega))
    | (subst e14; rw [i32_tm (by omega) (by omega) (by omega)]; rfl)
    | (rw [tdiv_n h0, i32_tm2 (by omega) (by omega) (by omega), wdo_10, if_pos (by rw [i32_hv h0] at *; omega)])
    | (rw [i32_tm (by omega) (by omega) (by omega), wdo_10, if_neg (by rw [i32_hv h0] at *; omega)])
theorem vX3_does_52 (s : MS) (a1 : Int) (a2 : Int) (a3 : Int) (hp : tOK (s.2 6) ∧ 0 ≤ a1 ∧ a1 < (s.2 6) 2 ∧ (0 ≤ (s.1 25) ∧ (s.1 25) < (s.2 6) 2) ∧ wOK ((s.2 6) 0) a2 a3) (c_45 : a2 = 12) (o_46 : (s.2 6 2) ≠ 0) : (i32 (Int.tmod (i32 (a1 * a3)) (s.2 6 2))) = (wdo (s.2 6) (s.1 25) a1 a2 a3) := by
  obtain ⟨ht, h0, h1, hk, hw, hn⟩ := hp
  have hN := tOK_N ht
  have b0 := dnv_b (x := a1) ht
  have b1 := upv_b (x := a1) ht
  have b2 := trn_b (x := a1) ht
  have b7 := psd_b (x := a1) (p := 2) ht (by omega)
  have b8 := psd_b (x := a1) (p := 3) ht (by omega)
  have b9 := psd_b (x := a1) (p := 1) ht (by omega)
  have b11 := rot_b (x := a1) ht
  have b14 := lod_b (x := a1) (d := a3) ht
  (try have e14 : a2 = 14 := by omega)
  (try subst a2)
  first
    | omega
    | (refine ⟨ht, by omega, by omega⟩)
    | (refine ⟨ht, by omega, by omega, by omega⟩)
    | (unfold wkp; first | rw [if_pos (by omega)] | rw [if_neg (by omega)])
    | (rw [i32_tm2 (by omega) (by omega) (by omega)]; first | rfl | rw [wdo_5, if_pos (by omega)] | rw [wdo_5, if_neg (by omega)])
    | (have hm := i32_mul (x := a1) (n := a3) h0 (by omega) (by omega) (by omega); rw [i32_tm2 hm.2.1 hm.2.2 (by omega)]; rfl)
    | (rw [i32_tm (by omega) (by omega) (by omega)]; rfl)
    | (exact i32_tm b7.1 (Int.lt_of_le_of_lt b7.2 (by decide)) (by omega))
    | (exact i32_tm b8.1 (Int.lt_of_le_of_lt b8.2 (by decide)) (by omega))
    | (exact i32_tm b9.1 (Int.lt_of_le_of_lt b9.2 (by decide)) (by omega))
    | (subst e14; rw [i32_tm (by omega) (by omega) (by omega)]; rfl)
    | (rw [tdiv_n h0, i32_tm2 (by omega) (by omega) (by omega), wdo_10, if_pos (by rw [i32_hv h0] at *; omega)])
    | (rw [i32_tm (by omega) (by omega) (by omega), wdo_10, if_neg (by rw [i32_hv h0] at *; omega)])
theorem vX3_does_53 (s : MS) (a1 : Int) (a2 : Int) (a3 : Int) (hp : tOK (s.2 6) ∧ 0 ≤ a1 ∧ a1 < (s.2 6) 2 ∧ (0 ≤ (s.1 25) ∧ (s.1 25) < (s.2 6) 2) ∧ wOK ((s.2 6) 0) a2 a3) (c_47 : a2 = 13) : (s.2 6 2) ≠ 0 := by
  obtain ⟨ht, h0, h1, hk, hw, hn⟩ := hp
  have hN := tOK_N ht
  have b0 := dnv_b (x := a1) ht
  have b1 := upv_b (x := a1) ht
  have b2 := trn_b (x := a1) ht
  have b7 := psd_b (x := a1) (p := 2) ht (by omega)
  have b8 := psd_b (x := a1) (p := 3) ht (by omega)
  have b9 := psd_b (x := a1) (p := 1) ht (by omega)
  have b11 := rot_b (x := a1) ht
  have b14 := lod_b (x := a1) (d := a3) ht
  (try have e14 : a2 = 14 := by omega)
  (try subst a2)
  first
    | omega
    | (refine ⟨ht, by omega, by omega⟩)
    | (refine ⟨ht, by omega, by omega, by omega⟩)
    | (unfold wkp; first | rw [if_pos (by omega)] | rw [if_neg (by omega)])
    | (rw [i32_tm2 (by omega) (by omega) (by omega)]; first | rfl | rw [wdo_5, if_pos (by omega)] | rw [wdo_5, if_neg (by omega)])
    | (have hm := i32_mul (x := a1) (n := a3) h0 (by omega) (by omega) (by omega); rw [i32_tm2 hm.2.1 hm.2.2 (by omega)]; rfl)
    | (rw [i32_tm (by omega) (by omega) (by omega)]; rfl)
    | (exact i32_tm b7.1 (Int.lt_of_le_of_lt b7.2 (by decide)) (by omega))
    | (exact i32_tm b8.1 (Int.lt_of_le_of_lt b8.2 (by decide)) (by omega))
    | (exact i32_tm b9.1 (Int.lt_of_le_of_lt b9.2 (by decide)) (by omega))
    | (subst e14; rw [i32_tm (by omega) (by omega) (by omega)]; rfl)
    | (rw [tdiv_n h0, i32_tm2 (by omega) (by omega) (by omega), wdo_10, if_pos (by rw [i32_hv h0] at *; omega)])
    | (rw [i32_tm (by omega) (by omega) (by omega), wdo_10, if_neg (by rw [i32_hv h0] at *; omega)])
theorem vX3_does_54 (s : MS) (a1 : Int) (a2 : Int) (a3 : Int) (hp : tOK (s.2 6) ∧ 0 ≤ a1 ∧ a1 < (s.2 6) 2 ∧ (0 ≤ (s.1 25) ∧ (s.1 25) < (s.2 6) 2) ∧ wOK ((s.2 6) 0) a2 a3) (c_47 : a2 = 13) (o_48 : (s.2 6 2) ≠ 0) : (s.1 25) = (wkp (s.1 25) a1 a2) := by
  obtain ⟨ht, h0, h1, hk, hw, hn⟩ := hp
  have hN := tOK_N ht
  have b0 := dnv_b (x := a1) ht
  have b1 := upv_b (x := a1) ht
  have b2 := trn_b (x := a1) ht
  have b7 := psd_b (x := a1) (p := 2) ht (by omega)
  have b8 := psd_b (x := a1) (p := 3) ht (by omega)
  have b9 := psd_b (x := a1) (p := 1) ht (by omega)
  have b11 := rot_b (x := a1) ht
  have b14 := lod_b (x := a1) (d := a3) ht
  (try have e14 : a2 = 14 := by omega)
  (try subst a2)
  first
    | omega
    | (refine ⟨ht, by omega, by omega⟩)
    | (refine ⟨ht, by omega, by omega, by omega⟩)
    | (unfold wkp; first | rw [if_pos (by omega)] | rw [if_neg (by omega)])
    | (rw [i32_tm2 (by omega) (by omega) (by omega)]; first | rfl | rw [wdo_5, if_pos (by omega)] | rw [wdo_5, if_neg (by omega)])
    | (have hm := i32_mul (x := a1) (n := a3) h0 (by omega) (by omega) (by omega); rw [i32_tm2 hm.2.1 hm.2.2 (by omega)]; rfl)
    | (rw [i32_tm (by omega) (by omega) (by omega)]; rfl)
    | (exact i32_tm b7.1 (Int.lt_of_le_of_lt b7.2 (by decide)) (by omega))
    | (exact i32_tm b8.1 (Int.lt_of_le_of_lt b8.2 (by decide)) (by omega))
    | (exact i32_tm b9.1 (Int.lt_of_le_of_lt b9.2 (by decide)) (by omega))
    | (subst e14; rw [i32_tm (by omega) (by omega) (by omega)]; rfl)
    | (rw [tdiv_n h0, i32_tm2 (by omega) (by omega) (by omega), wdo_10, if_pos (by rw [i32_hv h0] at *; omega)])
    | (rw [i32_tm (by omega) (by omega) (by omega), wdo_10, if_neg (by rw [i32_hv h0] at *; omega)])
theorem vX3_does_55 (s : MS) (a1 : Int) (a2 : Int) (a3 : Int) (hp : tOK (s.2 6) ∧ 0 ≤ a1 ∧ a1 < (s.2 6) 2 ∧ (0 ≤ (s.1 25) ∧ (s.1 25) < (s.2 6) 2) ∧ wOK ((s.2 6) 0) a2 a3) (c_47 : a2 = 13) (o_48 : (s.2 6 2) ≠ 0) : (i32 (Int.tmod (i32 (a1 + a3)) (s.2 6 2))) = (wdo (s.2 6) (s.1 25) a1 a2 a3) := by
  obtain ⟨ht, h0, h1, hk, hw, hn⟩ := hp
  have hN := tOK_N ht
  have b0 := dnv_b (x := a1) ht
  have b1 := upv_b (x := a1) ht
  have b2 := trn_b (x := a1) ht
  have b7 := psd_b (x := a1) (p := 2) ht (by omega)
  have b8 := psd_b (x := a1) (p := 3) ht (by omega)
  have b9 := psd_b (x := a1) (p := 1) ht (by omega)
  have b11 := rot_b (x := a1) ht
  have b14 := lod_b (x := a1) (d := a3) ht
  (try have e14 : a2 = 14 := by omega)
  (try subst a2)
  first
    | omega
    | (refine ⟨ht, by omega, by omega⟩)
    | (refine ⟨ht, by omega, by omega, by omega⟩)
    | (unfold wkp; first | rw [if_pos (by omega)] | rw [if_neg (by omega)])
    | (rw [i32_tm2 (by omega) (by omega) (by omega)]; first | rfl | rw [wdo_5, if_pos (by omega)] | rw [wdo_5, if_neg (by omega)])
    | (have hm := i32_mul (x := a1) (n := a3) h0 (by omega) (by omega) (by omega); rw [i32_tm2 hm.2.1 hm.2.2 (by omega)]; rfl)
    | (rw [i32_tm (by omega) (by omega) (by omega)]; rfl)
    | (exact i32_tm b7.1 (Int.lt_of_le_of_lt b7.2 (by decide)) (by omega))
    | (exact i32_tm b8.1 (Int.lt_of_le_of_lt b8.2 (by decide)) (by omega))
    | (exact i32_tm b9.1 (Int.lt_of_le_of_lt b9.2 (by decide)) (by omega))
    | (subst e14; rw [i32_tm (by omega) (by omega) (by omega)]; rfl)
    | (rw [tdiv_n h0, i32_tm2 (by omega) (by omega) (by omega), wdo_10, if_pos (by rw [i32_hv h0] at *; omega)])
    | (rw [i32_tm (by omega) (by omega) (by omega), wdo_10, if_neg (by rw [i32_hv h0] at *; omega)])
theorem vX3_does_56 (s : MS) (a1 : Int) (a2 : Int) (a3 : Int) (hp : tOK (s.2 6) ∧ 0 ≤ a1 ∧ a1 < (s.2 6) 2 ∧ (0 ≤ (s.1 25) ∧ (s.1 25) < (s.2 6) 2) ∧ wOK ((s.2 6) 0) a2 a3) (c_49 : a2 < 0 ∨ 13 < a2) : (tOK (s.2 6) ∧ 0 ≤ a1 ∧ a1 ≤ 100000) := by
  obtain ⟨ht, h0, h1, hk, hw, hn⟩ := hp
  have hN := tOK_N ht
  have b0 := dnv_b (x := a1) ht
  have b1 := upv_b (x := a1) ht
  have b2 := trn_b (x := a1) ht
  have b7 := psd_b (x := a1) (p := 2) ht (by omega)
  have b8 := psd_b (x := a1) (p := 3) ht (by omega)
  have b9 := psd_b (x := a1) (p := 1) ht (by omega)
  have b11 := rot_b (x := a1) ht
  have b14 := lod_b (x := a1) (d := a3) ht
  (try have e14 : a2 = 14 := by omega)
  (try subst a2)
  first
    | omega
    | (refine ⟨ht, by omega, by omega⟩)
    | (refine ⟨ht, by omega, by omega, by omega⟩)
    | (unfold wkp; first | rw [if_pos (by omega)] | rw [if_neg (by omega)])
    | (rw [i32_tm2 (by omega) (by omega) (by omega)]; first | rfl | rw [wdo_5, if_pos (by omega)] | rw [wdo_5, if_neg (by omega)])
    | (have hm := i32_mul (x := a1) (n := a3) h0 (by omega) (by omega) (by omega); rw [i32_tm2 hm.2.1 hm.2.2 (by omega)]; rfl)
    | (rw [i32_tm (by omega) (by omega) (by omega)]; rfl)
    | (exact i32_tm b7.1 (Int.lt_of_le_of_lt b7.2 (by decide)) (by omega))
    | (exact i32_tm b8.1 (Int.lt_of_le_of_lt b8.2 (by decide)) (by omega))
    | (exact i32_tm b9.1 (Int.lt_of_le_of_lt b9.2 (by decide)) (by omega))
    | (subst e14; rw [i32_tm (by omega) (by omega) (by omega)]; rfl)
    | (rw [tdiv_n h0, i32_tm2 (by omega) (by omega) (by omega), wdo_10, if_pos (by rw [i32_hv h0] at *; omega)])
    | (rw [i32_tm (by omega) (by omega) (by omega), wdo_10, if_neg (by rw [i32_hv h0] at *; omega)])
theorem vX3_does_57 (s : MS) (a1 : Int) (a2 : Int) (a3 : Int) (hp : tOK (s.2 6) ∧ 0 ≤ a1 ∧ a1 < (s.2 6) 2 ∧ (0 ≤ (s.1 25) ∧ (s.1 25) < (s.2 6) 2) ∧ wOK ((s.2 6) 0) a2 a3) (c_49 : a2 < 0 ∨ 13 < a2) (o_50 : (tOK (s.2 6) ∧ 0 ≤ a1 ∧ a1 ≤ 100000)) : (s.2 6 2) ≠ 0 := by
  obtain ⟨ht, h0, h1, hk, hw, hn⟩ := hp
  have hN := tOK_N ht
  have b0 := dnv_b (x := a1) ht
  have b1 := upv_b (x := a1) ht
  have b2 := trn_b (x := a1) ht
  have b7 := psd_b (x := a1) (p := 2) ht (by omega)
  have b8 := psd_b (x := a1) (p := 3) ht (by omega)
  have b9 := psd_b (x := a1) (p := 1) ht (by omega)
  have b11 := rot_b (x := a1) ht
  have b14 := lod_b (x := a1) (d := a3) ht
  (try have e14 : a2 = 14 := by omega)
  (try subst a2)
  first
    | omega
    | (refine ⟨ht, by omega, by omega⟩)
    | (refine ⟨ht, by omega, by omega, by omega⟩)
    | (unfold wkp; first | rw [if_pos (by omega)] | rw [if_neg (by omega)])
    | (rw [i32_tm2 (by omega) (by omega) (by omega)]; first | rfl | rw [wdo_5, if_pos (by omega)] | rw [wdo_5, if_neg (by omega)])
    | (have hm := i32_mul (x := a1) (n := a3) h0 (by omega) (by omega) (by omega); rw [i32_tm2 hm.2.1 hm.2.2 (by omega)]; rfl)
    | (rw [i32_tm (by omega) (by omega) (by omega)]; rfl)
    | (exact i32_tm b7.1 (Int.lt_of_le_of_lt b7.2 (by decide)) (by omega))
    | (exact i32_tm b8.1 (Int.lt_of_le_of_lt b8.2 (by decide)) (by omega))
    | (exact i32_tm b9.1 (Int.lt_of_le_of_lt b9.2 (by decide)) (by omega))
    | (subst e14; rw [i32_tm (by omega) (by omega) (by omega)]; rfl)
    | (rw [tdiv_n h0, i32_tm2 (by omega) (by omega) (by omega), wdo_10, if_pos (by rw [i32_hv h0] at *; omega)])
    | (rw [i32_tm (by omega) (by omega) (by omega), wdo_10, if_neg (by rw [i32_hv h0] at *; omega)])
theorem vX3_does_58 (s : MS) (a1 : Int) (a2 : Int) (a3 : Int) (hp : tOK (s.2 6) ∧ 0 ≤ a1 ∧ a1 < (s.2 6) 2 ∧ (0 ≤ (s.1 25) ∧ (s.1 25) < (s.2 6) 2) ∧ wOK ((s.2 6) 0) a2 a3) (c_49 : a2 < 0 ∨ 13 < a2) (o_50 : (tOK (s.2 6) ∧ 0 ≤ a1 ∧ a1 ≤ 100000)) (o_52 : (s.2 6 2) ≠ 0) : (s.1 25) = (wkp (s.1 25) a1 a2) := by
  obtain ⟨ht, h0, h1, hk, hw, hn⟩ := hp
  have hN := tOK_N ht
  have b0 := dnv_b (x := a1) ht
  have b1 := upv_b (x := a1) ht
  have b2 := trn_b (x := a1) ht
  have b7 := psd_b (x := a1) (p := 2) ht (by omega)
  have b8 := psd_b (x := a1) (p := 3) ht (by omega)
  have b9 := psd_b (x := a1) (p := 1) ht (by omega)
  have b11 := rot_b (x := a1) ht
  have b14 := lod_b (x := a1) (d := a3) ht
  (try have e14 : a2 = 14 := by omega)
  (try subst a2)
  first
    | omega
    | (refine ⟨ht, by omega, by omega⟩)
    | (refine ⟨ht, by omega, by omega, by omega⟩)
    | (unfold wkp; first | rw [if_pos (by omega)] | rw [if_neg (by omega)])
    | (rw [i32_tm2 (by omega) (by omega) (by omega)]; first | rfl | rw [wdo_5, if_pos (by omega)] | rw [wdo_5, if_neg (by omega)])
    | (have hm := i32_mul (x := a1) (n := a3) h0 (by omega) (by omega) (by omega); rw [i32_tm2 hm.2.1 hm.2.2 (by omega)]; rfl)
    | (rw [i32_tm (by omega) (by omega) (by omega)]; rfl)
    | (exact i32_tm b7.1 (Int.lt_of_le_of_lt b7.2 (by decide)) (by omega))
    | (exact i32_tm b8.1 (Int.lt_of_le_of_lt b8.2 (by decide)) (by omega))
    | (exact i32_tm b9.1 (Int.lt_of_le_of_lt b9.2 (by decide)) (by omega))
    | (subst e14; rw [i32_tm (by omega) (by omega) (by omega)]; rfl)
    | (rw [tdiv_n h0, i32_tm2 (by omega) (by omega) (by omega), wdo_10, if_pos (by rw [i32_hv h0] at *; omega)])
    | (rw [i32_tm (by omega) (by omega) (by omega), wdo_10, if_neg (by rw [i32_hv h0] at *; omega)])
theorem vX3_does_59 (s : MS) (a1 : Int) (a2 : Int) (a3 : Int) (hp : tOK (s.2 6) ∧ 0 ≤ a1 ∧ a1 < (s.2 6) 2 ∧ (0 ≤ (s.1 25) ∧ (s.1 25) < (s.2 6) 2) ∧ wOK ((s.2 6) 0) a2 a3) (c_49 : a2 < 0 ∨ 13 < a2) (o_50 : (tOK (s.2 6) ∧ 0 ≤ a1 ∧ a1 ≤ 100000)) (o_52 : (s.2 6 2) ≠ 0) : (i32 (Int.tmod (lof ((s.2 6) 0) a3 (dig ((s.2 6) 0) ((s.2 6) 1) a1) ((s.2 6) 1).toNat) (s.2 6 2))) = (wdo (s.2 6) (s.1 25) a1 a2 a3) := by
  obtain ⟨ht, h0, h1, hk, hw, hn⟩ := hp
  have hN := tOK_N ht
  have b0 := dnv_b (x := a1) ht
  have b1 := upv_b (x := a1) ht
  have b2 := trn_b (x := a1) ht
  have b7 := psd_b (x := a1) (p := 2) ht (by omega)
  have b8 := psd_b (x := a1) (p := 3) ht (by omega)
  have b9 := psd_b (x := a1) (p := 1) ht (by omega)
  have b11 := rot_b (x := a1) ht
  have b14 := lod_b (x := a1) (d := a3) ht
  (try have e14 : a2 = 14 := by omega)
  (try subst a2)
  first
    | omega
    | (refine ⟨ht, by omega, by omega⟩)
    | (refine ⟨ht, by omega, by omega, by omega⟩)
    | (unfold wkp; first | rw [if_pos (by omega)] | rw [if_neg (by omega)])
    | (rw [i32_tm2 (by omega) (by omega) (by omega)]; first | rfl | rw [wdo_5, if_pos (by omega)] | rw [wdo_5, if_neg (by omega)])
    | (have hm := i32_mul (x := a1) (n := a3) h0 (by omega) (by omega) (by omega); rw [i32_tm2 hm.2.1 hm.2.2 (by omega)]; rfl)
    | (rw [i32_tm (by omega) (by omega) (by omega)]; rfl)
    | (exact i32_tm b7.1 (Int.lt_of_le_of_lt b7.2 (by decide)) (by omega))
    | (exact i32_tm b8.1 (Int.lt_of_le_of_lt b8.2 (by decide)) (by omega))
    | (exact i32_tm b9.1 (Int.lt_of_le_of_lt b9.2 (by decide)) (by omega))
    | (subst e14; rw [i32_tm (by omega) (by omega) (by omega)]; rfl)
    | (rw [tdiv_n h0, i32_tm2 (by omega) (by omega) (by omega), wdo_10, if_pos (by rw [i32_hv h0] at *; omega)])
    | (rw [i32_tm (by omega) (by omega) (by omega), wdo_10, if_neg (by rw [i32_hv h0] at *; omega)])
theorem ctX3_does (b : AH) (s : MS) (a1 : Int) (a2 : Int) (a3 : Int) (hp : tOK (s.2 6) ∧ 0 ≤ a1 ∧ a1 < (s.2 6) 2 ∧ (0 ≤ (s.1 25) ∧ (s.1 25) < (s.2 6) 2) ∧ wOK ((s.2 6) 0) a2 a3) : MC mX3_does 4 b s [vI a1, vI a2, vI a3] (QX3_does s a1 a2 a3) := by
  refine MC.of (by decide) rfl (Nat.le_of_ble_eq_true rfl) (JW.steq (s2 := sS (sA (sA s 11 (s.2 11)) 12 (s.2 12)) 25 (s.1 25)) (by simp only [sA_id, sS_id]) ?_)
  refine bX3_does_0 b s a1 a2 a3 (s.2 11) (s.2 12) (s.1 25) ?_
  refine ⟨fun c_1 => ?_, ?_⟩
  · have o_2 : (tOK (s.2 6) ∧ 0 ≤ a1 ∧ a1 ≤ 100000) := (vX3_does_1 s a1 a2 a3 hp c_1)
    refine ⟨o_2, ?_⟩
    intro f_3
    have o_5 : (s.2 6 2) ≠ 0 := (vX3_does_2 s a1 a2 a3 hp c_1 o_2 f_3)
    refine ⟨o_5, ?_⟩
    exact ⟨(figs ((s.2 6) 0) ((s.2 6) 1) a1 (s.2 11)), f_3, (rI_c (vX3_does_4 s a1 a2 a3 hp c_1 o_2 f_3 o_5)), (sS_c (sA_c (sA_c rfl rfl) rfl) (vX3_does_3 s a1 a2 a3 hp c_1 o_2 f_3 o_5))⟩
  refine ⟨fun c_6 => ?_, ?_⟩
  · have o_7 : (tOK (s.2 6) ∧ 0 ≤ a1 ∧ a1 ≤ 100000) := (vX3_does_5 s a1 a2 a3 hp c_6)
    refine ⟨o_7, ?_⟩
    intro f_8
    have o_10 : (s.2 6 2) ≠ 0 := (vX3_does_6 s a1 a2 a3 hp c_6 o_7 f_8)
    refine ⟨o_10, ?_⟩
    exact ⟨(figs ((s.2 6) 0) ((s.2 6) 1) a1 (s.2 11)), f_8, (rI_c (vX3_does_8 s a1 a2 a3 hp c_6 o_7 f_8 o_10)), (sS_c (sA_c (sA_c rfl rfl) rfl) (vX3_does_7 s a1 a2 a3 hp c_6 o_7 f_8 o_10))⟩
  refine ⟨fun c_11 => ?_, ?_⟩
  · have o_12 : (tOK (s.2 6) ∧ 0 ≤ a1 ∧ a1 ≤ 100000) := (vX3_does_9 s a1 a2 a3 hp c_11)
    refine ⟨o_12, ?_⟩
    have o_14 : (s.2 6 2) ≠ 0 := (vX3_does_10 s a1 a2 a3 hp c_11 o_12)
    refine ⟨o_14, ?_⟩
    exact ⟨(figs ((s.2 6) 0) ((s.2 6) 1) a1 (s.2 11)), (s.2 12), (rI_c (vX3_does_12 s a1 a2 a3 hp c_11 o_12 o_14)), (sS_c (sA_c (sA_c rfl rfl) rfl) (vX3_does_11 s a1 a2 a3 hp c_11 o_12 o_14))⟩
  refine ⟨fun c_15 => ?_, ?_⟩
  · have o_16 : (s.2 6 2) ≠ 0 := (vX3_does_13 s a1 a2 a3 hp c_15)
    refine ⟨o_16, ?_⟩
    exact ⟨(s.2 11), (s.2 12), (rI_c (vX3_does_15 s a1 a2 a3 hp c_15 o_16)), (sS_c (sA_c (sA_c rfl rfl) rfl) (vX3_does_14 s a1 a2 a3 hp c_15 o_16))⟩
  refine ⟨fun c_17 => ?_, ?_⟩
  · have o_18 : (s.2 6 2) ≠ 0 := (vX3_does_16 s a1 a2 a3 hp c_17)
    refine ⟨o_18, ?_⟩
    exact ⟨(s.2 11), (s.2 12), (rI_c (vX3_does_18 s a1 a2 a3 hp c_17 o_18)), (sS_c (sA_c (sA_c rfl rfl) rfl) (vX3_does_17 s a1 a2 a3 hp c_17 o_18))⟩
  refine ⟨fun c_19 => ?_, ?_⟩
  · refine ⟨fun c_20 => ?_, fun c_20 => ?_⟩
    · have o_21 : (s.2 6 2) ≠ 0 := (vX3_does_19 s a1 a2 a3 hp c_19 c_20)
      refine ⟨o_21, ?_⟩
      exact ⟨(s.2 11), (s.2 12), (rI_c (vX3_does_21 s a1 a2 a3 hp c_19 c_20 o_21)), (sS_c (sA_c (sA_c rfl rfl) rfl) (vX3_does_20 s a1 a2 a3 hp c_19 c_20 o_21))⟩
    · have o_22 : (s.2 6 2) ≠ 0 := (vX3_does_22 s a1 a2 a3 hp c_19 c_20)
      refine ⟨o_22, ?_⟩
      exact ⟨(s.2 11), (s.2 12), (rI_c (vX3_does_24 s a1 a2 a3 hp c_19 c_20 o_22)), (sS_c (sA_c (sA_c rfl rfl) rfl) (vX3_does_23 s a1 a2 a3 hp c_19 c_20 o_22))⟩
  refine ⟨fun c_23 => ?_, ?_⟩
  · have o_24 : (s.2 6 2) ≠ 0 := (vX3_does_25 s a1 a2 a3 hp c_23)
    refine ⟨o_24, ?_⟩
    exact ⟨(s.2 11), (s.2 12), (rI_c (vX3_does_27 s a1 a2 a3 hp c_23 o_24)), (sS_c (sA_c (sA_c rfl rfl) rfl) (vX3_does_26 s a1 a2 a3 hp c_23 o_24))⟩
  refine ⟨fun c_25 => ?_, ?_⟩
  · have o_26 : (tOK (s.2 6) ∧ 0 ≤ a1 ∧ a1 ≤ 100000 ∧ ((2 : Int) = 1 ∨ (2 : Int) = 2 ∨ (2 : Int) = 3)) := (vX3_does_28 s a1 a2 a3 hp c_25)
    refine ⟨o_26, ?_⟩
    have o_28 : (s.2 6 2) ≠ 0 := (vX3_does_29 s a1 a2 a3 hp c_25 o_26)
    refine ⟨o_28, ?_⟩
    exact ⟨(figs ((s.2 6) 0) ((s.2 6) 1) a1 (s.2 11)), (s.2 12), (rI_c (vX3_does_31 s a1 a2 a3 hp c_25 o_26 o_28)), (sS_c (sA_c (sA_c rfl rfl) rfl) (vX3_does_30 s a1 a2 a3 hp c_25 o_26 o_28))⟩
  refine ⟨fun c_29 => ?_, ?_⟩
  · have o_30 : (tOK (s.2 6) ∧ 0 ≤ a1 ∧ a1 ≤ 100000 ∧ ((3 : Int) = 1 ∨ (3 : Int) = 2 ∨ (3 : Int) = 3)) := (vX3_does_32 s a1 a2 a3 hp c_29)
    refine ⟨o_30, ?_⟩
    have o_32 : (s.2 6 2) ≠ 0 := (vX3_does_33 s a1 a2 a3 hp c_29 o_30)
    refine ⟨o_32, ?_⟩
    exact ⟨(figs ((s.2 6) 0) ((s.2 6) 1) a1 (s.2 11)), (s.2 12), (rI_c (vX3_does_35 s a1 a2 a3 hp c_29 o_30 o_32)), (sS_c (sA_c (sA_c rfl rfl) rfl) (vX3_does_34 s a1 a2 a3 hp c_29 o_30 o_32))⟩
  refine ⟨fun c_33 => ?_, ?_⟩
  · have o_34 : (tOK (s.2 6) ∧ 0 ≤ a1 ∧ a1 ≤ 100000 ∧ ((1 : Int) = 1 ∨ (1 : Int) = 2 ∨ (1 : Int) = 3)) := (vX3_does_36 s a1 a2 a3 hp c_33)
    refine ⟨o_34, ?_⟩
    have o_36 : (s.2 6 2) ≠ 0 := (vX3_does_37 s a1 a2 a3 hp c_33 o_34)
    refine ⟨o_36, ?_⟩
    exact ⟨(figs ((s.2 6) 0) ((s.2 6) 1) a1 (s.2 11)), (s.2 12), (rI_c (vX3_does_39 s a1 a2 a3 hp c_33 o_34 o_36)), (sS_c (sA_c (sA_c rfl rfl) rfl) (vX3_does_38 s a1 a2 a3 hp c_33 o_34 o_36))⟩
  refine ⟨fun c_37 => ?_, ?_⟩
  · refine ⟨fun c_38 => ?_, fun c_38 => ?_⟩
    · have o_39 : (s.2 6 2) ≠ 0 := (vX3_does_40 s a1 a2 a3 hp c_37 c_38)
      refine ⟨o_39, ?_⟩
      exact ⟨(s.2 11), (s.2 12), (rI_c (vX3_does_42 s a1 a2 a3 hp c_37 c_38 o_39)), (sS_c (sA_c (sA_c rfl rfl) rfl) (vX3_does_41 s a1 a2 a3 hp c_37 c_38 o_39))⟩
    · have o_40 : (s.2 6 2) ≠ 0 := (vX3_does_43 s a1 a2 a3 hp c_37 c_38)
      refine ⟨o_40, ?_⟩
      exact ⟨(s.2 11), (s.2 12), (rI_c (vX3_does_45 s a1 a2 a3 hp c_37 c_38 o_40)), (sS_c (sA_c (sA_c rfl rfl) rfl) (vX3_does_44 s a1 a2 a3 hp c_37 c_38 o_40))⟩
  refine ⟨fun c_41 => ?_, ?_⟩
  · have o_42 : (tOK (s.2 6) ∧ 0 ≤ a1 ∧ a1 ≤ 100000) := (vX3_does_46 s a1 a2 a3 hp c_41)
    refine ⟨o_42, ?_⟩
    have o_44 : (s.2 6 2) ≠ 0 := (vX3_does_47 s a1 a2 a3 hp c_41 o_42)
    refine ⟨o_44, ?_⟩
    exact ⟨(figs ((s.2 6) 0) ((s.2 6) 1) a1 (s.2 11)), (s.2 12), (rI_c (vX3_does_49 s a1 a2 a3 hp c_41 o_42 o_44)), (sS_c (sA_c (sA_c rfl rfl) rfl) (vX3_does_48 s a1 a2 a3 hp c_41 o_42 o_44))⟩
  refine ⟨fun c_45 => ?_, ?_⟩
  · have o_46 : (s.2 6 2) ≠ 0 := (vX3_does_50 s a1 a2 a3 hp c_45)
    refine ⟨o_46, ?_⟩
    exact ⟨(s.2 11), (s.2 12), (rI_c (vX3_does_52 s a1 a2 a3 hp c_45 o_46)), (sS_c (sA_c (sA_c rfl rfl) rfl) (vX3_does_51 s a1 a2 a3 hp c_45 o_46))⟩
  refine ⟨fun c_47 => ?_, ?_⟩
  · have o_48 : (s.2 6 2) ≠ 0 := (vX3_does_53 s a1 a2 a3 hp c_47)
    refine ⟨o_48, ?_⟩
    exact ⟨(s.2 11), (s.2 12), (rI_c (vX3_does_55 s a1 a2 a3 hp c_47 o_48)), (sS_c (sA_c (sA_c rfl rfl) rfl) (vX3_does_54 s a1 a2 a3 hp c_47 o_48))⟩
  intro c_49
  have o_50 : (tOK (s.2 6) ∧ 0 ≤ a1 ∧ a1 ≤ 100000) := (vX3_does_56 s a1 a2 a3 hp c_49)
  refine ⟨o_50, ?_⟩
  have o_52 : (s.2 6 2) ≠ 0 := (vX3_does_57 s a1 a2 a3 hp c_49 o_50)
  refine ⟨o_52, ?_⟩
  exact ⟨(figs ((s.2 6) 0) ((s.2 6) 1) a1 (s.2 11)), (s.2 12), (rI_c (vX3_does_59 s a1 a2 a3 hp c_49 o_50 o_52)), (sS_c (sA_c (sA_c rfl rfl) rfl) (vX3_does_58 s a1 a2 a3 hp c_49 o_50 o_52))⟩
