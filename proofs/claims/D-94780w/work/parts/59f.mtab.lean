/-! contracts of the reference: table -/
set_option maxRecDepth 100000
def HX3_table_0 (Q : Option AV → MS → Prop) (b : AH) (s : MS) (f5 : Int → Int) (f6 : Int → Int) (f7 : Int → Int) (f8 : Int → Int) (f9 : Int → Int) (k0 : Int) (k6 : Int) (k7 : Int) (k8 : Int) (k9 : Int) (k10 : Int) (k11 : Int) (k12 : Int) (k13 : Int) (k14 : Int) (k15 : Int) (k21 : Int) : Prop := MW mX3_table 8 Q b 0 [(0, vR 351)] [] (sS (sS (sS (sS (sS (sS (sS (sS (sS (sS (sS (sS (sA (sA (sA (sA (sA s 5 f5) 6 f6) 7 f7) 8 f8) 9 f9) 0 k0) 6 k6) 7 k7) 8 k8) 9 k9) 10 k10) 11 k11) 12 k12) 13 k13) 14 k14) 15 k15) 21 k21)
def HX3_table_13 (Q : Option AV → MS → Prop) (b : AH) (s : MS) (f5 : Int → Int) (f6 : Int → Int) (f7 : Int → Int) (f8 : Int → Int) (f9 : Int → Int) (k0 : Int) (k6 : Int) (k7 : Int) (k8 : Int) (k9 : Int) (k10 : Int) (k11 : Int) (k12 : Int) (k13 : Int) (k14 : Int) (k15 : Int) (k21 : Int) : Prop := MW mX3_table 8 Q b 13 [(0, vR 351)] [] (sS (sS (sS (sS (sS (sS (sS (sS (sS (sS (sS (sS (sA (sA (sA (sA (sA s 5 f5) 6 f6) 7 f7) 8 f8) 9 f9) 0 k0) 6 k6) 7 k7) 8 k8) 9 k9) 10 k10) 11 k11) 12 k12) 13 k13) 14 k14) 15 k15) 21 k21)
theorem bX3_table_0 {Q : Option AV → MS → Prop} (b : AH) (s : MS) (f5 : Int → Int) (f6 : Int → Int) (f7 : Int → Int) (f8 : Int → Int) (f9 : Int → Int) (k0 : Int) (k6 : Int) (k7 : Int) (k8 : Int) (k9 : Int) (k10 : Int) (k11 : Int) (k12 : Int) (k13 : Int) (k14 : Int) (k15 : Int) (k21 : Int) (K : (0 ≤ k6 ∧ k6 ≤ 800) ∧ (HX3_table_13 Q b s (upI f5 4 0) (fillC f6 24 6 0) f7 f8 f9 0 k6 (enx (s.2 4) k6 0) (knd (s.2 4) k6 0) (plc (s.2 4) k6 0) (vlu (s.2 4) k6 0) (wrd (s.2 4) k6 0) (0) (-1) k14 k15 (0))) : HX3_table_0 Q b s f5 f6 f7 f8 f9 k0 k6 k7 k8 k9 k10 k11 k12 k13 k14 k15 k21 := by
  refine JW.aload_n dX3_table_0 rfl ?_
  refine JW.iconst dX3_table_1 rfl ?_
  refine JW.mputI dX3_table_2 (pX3_77 _) rfl ?_
  refine JW.steq (s2 := sS (sS (sS (sS (sS (sS (sS (sS (sS (sS (sS (sS (sA (sA (sA (sA (sA s 5 f5) 6 f6) 7 f7) 8 f8) 9 f9) 0 0) 6 k6) 7 k7) 8 k8) 9 k9) 10 k10) 11 k11) 12 k12) 13 k13) 14 k14) 15 k15) 21 k21) (by simp only [sA_A, sS_S, sA_S, sA_lt, sS_lt, Nat.reduceLT, id_eq] <;> rfl) ?_
  refine JW.aload_n dX3_table_5 rfl ?_
  refine JW.mcall (As := []) dX3_table_6 vX3_clears rfl q1666 (ctX3_clears b (sS (sS (sS (sS (sS (sS (sS (sS (sS (sS (sS (sS (sA (sA (sA (sA (sA s 5 f5) 6 f6) 7 f7) 8 f8) 9 f9) 0 0) 6 k6) 7 k7) 8 k8) 9 k9) 10 k10) 11 k11) 12 k12) 13 k13) 14 k14) 15 k15) 21 k21)) (Nat.le_of_ble_eq_true rfl) rfl (Nat.le_of_ble_eq_true rfl) ?_
  rintro _ _ ⟨rfl, rfl⟩
  refine JW.steq (s2 := sS (sS (sS (sS (sS (sS (sS (sS (sS (sS (sS (sS (sA (sA (sA (sA (sA s 5 (upI f5 4 0)) 6 (fillC f6 24 6 0)) 7 f7) 8 f8) 9 f9) 0 0) 6 k6) 7 k7) 8 k8) 9 k9) 10 k10) 11 k11) 12 k12) 13 k13) 14 k14) 15 k15) 21 (0)) (by simp only [sA_A, sS_S, sA_S, sA_lt, sS_lt, Nat.reduceLT, id_eq] <;> rfl) ?_
  refine JW.aload_n dX3_table_9 rfl ?_
  obtain ⟨o_2, K⟩ := K
  refine JW.mcall (As := []) dX3_table_10 vX3_begins rfl q1670 (ctX3_begins b (sS (sS (sS (sS (sS (sS (sS (sS (sS (sS (sS (sS (sA (sA (sA (sA (sA s 5 (upI f5 4 0)) 6 (fillC f6 24 6 0)) 7 f7) 8 f8) 9 f9) 0 0) 6 k6) 7 k7) 8 k8) 9 k9) 10 k10) 11 k11) 12 k12) 13 k13) 14 k14) 15 k15) 21 (0)) o_2) (Nat.le_of_ble_eq_true rfl) rfl (Nat.le_of_ble_eq_true rfl) ?_
  rintro _ _ ⟨rfl, rfl⟩
  refine JW.steq (s2 := sS (sS (sS (sS (sS (sS (sS (sS (sS (sS (sS (sS (sA (sA (sA (sA (sA s 5 (upI f5 4 0)) 6 (fillC f6 24 6 0)) 7 f7) 8 f8) 9 f9) 0 0) 6 k6) 7 (enx (s.2 4) k6 0)) 8 (knd (s.2 4) k6 0)) 9 (plc (s.2 4) k6 0)) 10 (vlu (s.2 4) k6 0)) 11 (wrd (s.2 4) k6 0)) 12 (0)) 13 (-1)) 14 k14) 15 k15) 21 (0)) (by simp only [sA_A, sS_S, sA_S, sA_lt, sS_lt, Nat.reduceLT, id_eq] <;> rfl) ?_
  exact JW.pick [0] rfl K
theorem bX3_table_13 {Q : Option AV → MS → Prop} (b : AH) (s : MS) (f5 : Int → Int) (f6 : Int → Int) (f7 : Int → Int) (f8 : Int → Int) (f9 : Int → Int) (k0 : Int) (k6 : Int) (k7 : Int) (k8 : Int) (k9 : Int) (k10 : Int) (k11 : Int) (k12 : Int) (k13 : Int) (k14 : Int) (k15 : Int) (k21 : Int) (K : ((bI (k12 = 0)) = 0 → (k12 = 0 → ((0 ≤ (4 : Int) ∧ (4 : Int) ≤ 4) ∧ (0 ≤ (0 : Int) ∧ (0 : Int) ≤ 4) ∧ (4 : Int) ≠ (0 : Int)) ∧ (Q (some (vI ((cpT 1 (4 : Int) (0 : Int) f5) 0))) (sS (sS (sS (sS (sS (sS (sS (sS (sS (sS (sS (sS (sA (sA (sA (sA (sA s 5 (cpT 1 (4 : Int) (0 : Int) f5)) 6 (cpT 6 (4 : Int) (0 : Int) f6)) 7 (cpT 24 (4 : Int) (0 : Int) f7)) 8 (cpT 24 (4 : Int) (0 : Int) f8)) 9 (cpT 20 (4 : Int) (0 : Int) f9)) 0 k0) 6 (0)) 7 k7) 8 k8) 9 k9) 10 k10) 11 k11) 12 k12) 13 k13) 14 (k12)) 15 (if k12 = 0 then -1 else k13)) 21 k21))) ∧ (¬ k12 = 0 → Q (some (vI (-4))) (sS (sS (sS (sS (sS (sS (sS (sS (sS (sS (sS (sS (sA (sA (sA (sA (sA s 5 f5) 6 f6) 7 f7) 8 f8) 9 f9) 0 k0) 6 (0)) 7 k7) 8 k8) 9 k9) 10 k10) 11 k11) 12 k12) 13 k13) 14 (k12)) 15 (if k12 = 0 then -1 else k13)) 21 k21))) ∧ (¬ (bI (k12 = 0)) = 0 → (k8 = 0 → (k12 = 0 → ((0 ≤ (4 : Int) ∧ (4 : Int) ≤ 4) ∧ (0 ≤ (0 : Int) ∧ (0 : Int) ≤ 4) ∧ (4 : Int) ≠ (0 : Int)) ∧ (Q (some (vI ((cpT 1 (4 : Int) (0 : Int) f5) 0))) (sS (sS (sS (sS (sS (sS (sS (sS (sS (sS (sS (sS (sA (sA (sA (sA (sA s 5 (cpT 1 (4 : Int) (0 : Int) f5)) 6 (cpT 6 (4 : Int) (0 : Int) f6)) 7 (cpT 24 (4 : Int) (0 : Int) f7)) 8 (cpT 24 (4 : Int) (0 : Int) f8)) 9 (cpT 20 (4 : Int) (0 : Int) f9)) 0 k0) 6 (0)) 7 k7) 8 k8) 9 k9) 10 k10) 11 k11) 12 k12) 13 k13) 14 (k12)) 15 (if k12 = 0 then -1 else k13)) 21 k21))) ∧ (¬ k12 = 0 → Q (some (vI (-4))) (sS (sS (sS (sS (sS (sS (sS (sS (sS (sS (sS (sS (sA (sA (sA (sA (sA s 5 f5) 6 f6) 7 f7) 8 f8) 9 f9) 0 k0) 6 (0)) 7 k7) 8 k8) 9 k9) 10 k10) 11 k11) 12 k12) 13 k13) 14 (k12)) 15 (if k12 = 0 then -1 else k13)) 21 k21))) ∧ (¬ k8 = 0 → (¬ (f5 4) = 0 → (0 ≤ k7 ∧ k7 ≤ k6 ∧ k6 ≤ 800 ∧ k12 = 0 ∧ (0 ≤ f6 24 ∧ f6 24 ≤ 100) ∧ (k21 = 0 → f6 27 = 0) ∧ (0 ≤ f6 28 ∧ f6 28 ≤ 6) ∧ (0 ≤ f6 29 ∧ f6 29 ≤ 20) ∧ (0 ≤ f6 26 ∧ f6 26 ≤ 200000)) ∧ ((∀ (f_14 : Int → Int) (f_15 : Int → Int) (f_16 : Int → Int) (f_17 : Int → Int) (k_18 : Int) (k_19 : Int) (k_20 : Int) (k_21 : Int) (k_22 : Int) (k_23 : Int) (k_24 : Int) (k_25 : Int), (lnQ (s.2 4) k6 (lineP (s.2 4) k6 (rep f6 f7 f8 f9 k21)) k7 k8 k9 k10 k11 k_18 k_19 k_20 k_21 k_22 k_23 k_24 (rep f_14 f_15 f_16 f_17 k_25) ∧ (∀ z, z < 24 → f_14 z = f6 z) ∧ (∀ z, z < 96 → f_15 z = f7 z) ∧ (∀ z, z < 96 → f_16 z = f8 z) ∧ (∀ z, z < 80 → f_17 z = f9 z)) → ((bI (k_23 = 0)) = 0 → HX3_table_13 Q b s (upI f5 4 (i32 ((f5 4) + 1))) f_14 f_15 f_16 f_17 k0 k6 k_18 k_19 k_20 k_21 k_22 k_23 k_24 k14 k15 k_25) ∧ (¬ (bI (k_23 = 0)) = 0 → (0 ≤ k_18 ∧ k_18 ≤ k6 ∧ k6 ≤ 800) ∧ ((∀ (k_30 : Int) (k_31 : Int) (k_32 : Int) (k_33 : Int) (k_34 : Int) (k_35 : Int) (k_36 : Int), (stopQ (s.2 4) k6 k_18 k_19 k_20 k_21 k_22 k_23 k_24 k_30 k_31 k_32 k_33 k_34 k_35 k_36) → HX3_table_13 Q b s (upI f5 4 (i32 ((f5 4) + 1))) f_14 f_15 f_16 f_17 k0 k6 k_30 k_31 k_32 k_33 k_34 k_35 k_36 k14 k15 k_25)))))) ∧ ((f5 4) = 0 → (0 ≤ k7 ∧ k7 ≤ k6 ∧ k6 ≤ 800 ∧ k12 = 0) ∧ ((∀ (f_39 : Int → Int) (k_40 : Int) (k_41 : Int) (k_42 : Int) (k_43 : Int) (k_44 : Int) (k_45 : Int) (k_46 : Int), (lnQ (s.2 4) k6 (firstP (s.2 4) k6 (rep f6 f7 f8 f9 k21)) k7 k8 k9 k10 k11 k_40 k_41 k_42 k_43 k_44 k_45 k_46 (rep f_39 f7 f8 f9 k21) ∧ (∀ z, z < 24 ∨ 26 < z → f_39 z = f6 z)) → ((bI (k_45 = 0)) = 0 → HX3_table_13 Q b s (upI f5 4 (i32 ((f5 4) + 1))) f_39 f7 f8 f9 k0 k6 k_40 k_41 k_42 k_43 k_44 k_45 k_46 k14 k15 k21) ∧ (¬ (bI (k_45 = 0)) = 0 → (0 ≤ k_40 ∧ k_40 ≤ k6 ∧ k6 ≤ 800) ∧ ((∀ (k_51 : Int) (k_52 : Int) (k_53 : Int) (k_54 : Int) (k_55 : Int) (k_56 : Int) (k_57 : Int), (stopQ (s.2 4) k6 k_40 k_41 k_42 k_43 k_44 k_45 k_46 k_51 k_52 k_53 k_54 k_55 k_56 k_57) → HX3_table_13 Q b s (upI f5 4 (i32 ((f5 4) + 1))) f_39 f7 f8 f9 k0 k6 k_51 k_52 k_53 k_54 k_55 k_56 k_57 k14 k15 k21))))))))) : HX3_table_13 Q b s f5 f6 f7 f8 f9 k0 k6 k7 k8 k9 k10 k11 k12 k13 k14 k15 k21 := by
  refine JW.aload_n dX3_table_13 rfl ?_
  refine JW.mcall (As := []) dX3_table_14 vX3_isGood rfl q1687 (ctX3_isGood b (sS (sS (sS (sS (sS (sS (sS (sS (sS (sS (sS (sS (sA (sA (sA (sA (sA s 5 f5) 6 f6) 7 f7) 8 f8) 9 f9) 0 k0) 6 k6) 7 k7) 8 k8) 9 k9) 10 k10) 11 k11) 12 k12) 13 k13) 14 k14) 15 k15) 21 k21)) (Nat.le_of_ble_eq_true rfl) rfl (Nat.le_of_ble_eq_true rfl) ?_
  rintro _ _ ⟨rfl, eq_1⟩
  refine JW.steq (s2 := sS (sS (sS (sS (sS (sS (sS (sS (sS (sS (sS (sS (sA (sA (sA (sA (sA s 5 f5) 6 f6) 7 f7) 8 f8) 9 f9) 0 k0) 6 k6) 7 k7) 8 k8) 9 k9) 10 k10) 11 k11) 12 k12) 13 k13) 14 k14) 15 k15) 21 k21) eq_1 ?_
  refine JW.if_eq (tgt := 71) dX3_table_17 rfl (fun c_2 => ?_) (fun c_2 => ?_)
  · have K := K.1 c_2
    refine JW.aload_n dX3_table_71 rfl ?_
    refine JW.mcall (As := []) dX3_table_72 vX3_isOver rfl q1769 (ctX3_isOver b (sS (sS (sS (sS (sS (sS (sS (sS (sS (sS (sS (sS (sA (sA (sA (sA (sA s 5 f5) 6 f6) 7 f7) 8 f8) 9 f9) 0 k0) 6 k6) 7 k7) 8 k8) 9 k9) 10 k10) 11 k11) 12 k12) 13 k13) 14 k14) 15 k15) 21 k21)) (Nat.le_of_ble_eq_true rfl) rfl (Nat.le_of_ble_eq_true rfl) ?_
    rintro _ _ ⟨rfl, rfl⟩
    refine JW.steq (s2 := sS (sS (sS (sS (sS (sS (sS (sS (sS (sS (sS (sS (sA (sA (sA (sA (sA s 5 f5) 6 f6) 7 f7) 8 f8) 9 f9) 0 k0) 6 (0)) 7 k7) 8 k8) 9 k9) 10 k10) 11 k11) 12 k12) 13 k13) 14 (k12)) 15 (if k12 = 0 then -1 else k13)) 21 k21) (by simp only [sA_A, sS_S, sA_S, sA_lt, sS_lt, Nat.reduceLT, id_eq] <;> rfl) ?_
    refine JW.aload_n dX3_table_75 rfl ?_
    refine JW.mget (v := vI k12) dX3_table_76 fX3_129 rfl ?_
    refine JW.if_eq (tgt := 85) dX3_table_79 rfl (fun c_4 => ?_) (fun c_4 => ?_)
    · have K := K.1 c_4
      refine JW.aload_n dX3_table_85 rfl ?_
      refine JW.iconst dX3_table_86 rfl ?_
      refine JW.iconst dX3_table_87 rfl ?_
      obtain ⟨o_5, K⟩ := K
      refine JW.mcall (As := [vI 4, vI 0]) dX3_table_88 vX3_copyTable rfl q1773 (ctX3_copyTable b (sS (sS (sS (sS (sS (sS (sS (sS (sS (sS (sS (sS (sA (sA (sA (sA (sA s 5 f5) 6 f6) 7 f7) 8 f8) 9 f9) 0 k0) 6 (0)) 7 k7) 8 k8) 9 k9) 10 k10) 11 k11) 12 k12) 13 k13) 14 (k12)) 15 (if k12 = 0 then -1 else k13)) 21 k21) 4 0 o_5) (Nat.le_of_ble_eq_true rfl) rfl (Nat.le_of_ble_eq_true rfl) ?_
      rintro _ _ ⟨rfl, rfl⟩
      refine JW.steq (s2 := sS (sS (sS (sS (sS (sS (sS (sS (sS (sS (sS (sS (sA (sA (sA (sA (sA s 5 (cpT 1 (4 : Int) (0 : Int) f5)) 6 (cpT 6 (4 : Int) (0 : Int) f6)) 7 (cpT 24 (4 : Int) (0 : Int) f7)) 8 (cpT 24 (4 : Int) (0 : Int) f8)) 9 (cpT 20 (4 : Int) (0 : Int) f9)) 0 k0) 6 (0)) 7 k7) 8 k8) 9 k9) 10 k10) 11 k11) 12 k12) 13 k13) 14 (k12)) 15 (if k12 = 0 then -1 else k13)) 21 k21) (by simp only [sA_A, sS_S, sA_S, sA_lt, sS_lt, Nat.reduceLT, id_eq] <;> rfl) ?_
      refine JW.aload_n dX3_table_91 rfl ?_
      refine JW.mget (v := vR 357) dX3_table_92 fX3_31 rfl ?_
      refine JW.iconst dX3_table_95 rfl ?_
      refine JW.mald 5 (x := ((cpT 1 (4 : Int) (0 : Int) f5) 0)) dX3_table_96 (Nat.le_of_ble_eq_true rfl) rfl (by decide) (by decide) rfl ?_
      exact JW.ireturn dX3_table_97 rfl rfl ⟨_, rfl, K⟩
    · have K := K.2 c_4
      refine JW.bipush dX3_table_82 rfl ?_
      exact JW.ireturn dX3_table_84 rfl rfl ⟨_, rfl, K⟩
  · have K := K.2 c_2
    refine JW.aload_n dX3_table_20 rfl ?_
    refine JW.mget (v := vI k8) dX3_table_21 fX3_118 rfl ?_
    refine JW.if_eq (tgt := 71) dX3_table_24 rfl (fun c_7 => ?_) (fun c_7 => ?_)
    · have K := K.1 c_7
      refine JW.aload_n dX3_table_71 rfl ?_
      refine JW.mcall (As := []) dX3_table_72 vX3_isOver rfl q1769 (ctX3_isOver b (sS (sS (sS (sS (sS (sS (sS (sS (sS (sS (sS (sS (sA (sA (sA (sA (sA s 5 f5) 6 f6) 7 f7) 8 f8) 9 f9) 0 k0) 6 k6) 7 k7) 8 k8) 9 k9) 10 k10) 11 k11) 12 k12) 13 k13) 14 k14) 15 k15) 21 k21)) (Nat.le_of_ble_eq_true rfl) rfl (Nat.le_of_ble_eq_true rfl) ?_
      rintro _ _ ⟨rfl, rfl⟩
      refine JW.steq (s2 := sS (sS (sS (sS (sS (sS (sS (sS (sS (sS (sS (sS (sA (sA (sA (sA (sA s 5 f5) 6 f6) 7 f7) 8 f8) 9 f9) 0 k0) 6 (0)) 7 k7) 8 k8) 9 k9) 10 k10) 11 k11) 12 k12) 13 k13) 14 (k12)) 15 (if k12 = 0 then -1 else k13)) 21 k21) (by simp only [sA_A, sS_S, sA_S, sA_lt, sS_lt, Nat.reduceLT, id_eq] <;> rfl) ?_
      refine JW.aload_n dX3_table_75 rfl ?_
      refine JW.mget (v := vI k12) dX3_table_76 fX3_129 rfl ?_
      refine JW.if_eq (tgt := 85) dX3_table_79 rfl (fun c_9 => ?_) (fun c_9 => ?_)
      · have K := K.1 c_9
        refine JW.aload_n dX3_table_85 rfl ?_
        refine JW.iconst dX3_table_86 rfl ?_
        refine JW.iconst dX3_table_87 rfl ?_
        obtain ⟨o_10, K⟩ := K
        refine JW.mcall (As := [vI 4, vI 0]) dX3_table_88 vX3_copyTable rfl q1773 (ctX3_copyTable b (sS (sS (sS (sS (sS (sS (sS (sS (sS (sS (sS (sS (sA (sA (sA (sA (sA s 5 f5) 6 f6) 7 f7) 8 f8) 9 f9) 0 k0) 6 (0)) 7 k7) 8 k8) 9 k9) 10 k10) 11 k11) 12 k12) 13 k13) 14 (k12)) 15 (if k12 = 0 then -1 else k13)) 21 k21) 4 0 o_10) (Nat.le_of_ble_eq_true rfl) rfl (Nat.le_of_ble_eq_true rfl) ?_
        rintro _ _ ⟨rfl, rfl⟩
        refine JW.steq (s2 := sS (sS (sS (sS (sS (sS (sS (sS (sS (sS (sS (sS (sA (sA (sA (sA (sA s 5 (cpT 1 (4 : Int) (0 : Int) f5)) 6 (cpT 6 (4 : Int) (0 : Int) f6)) 7 (cpT 24 (4 : Int) (0 : Int) f7)) 8 (cpT 24 (4 : Int) (0 : Int) f8)) 9 (cpT 20 (4 : Int) (0 : Int) f9)) 0 k0) 6 (0)) 7 k7) 8 k8) 9 k9) 10 k10) 11 k11) 12 k12) 13 k13) 14 (k12)) 15 (if k12 = 0 then -1 else k13)) 21 k21) (by simp only [sA_A, sS_S, sA_S, sA_lt, sS_lt, Nat.reduceLT, id_eq] <;> rfl) ?_
        refine JW.aload_n dX3_table_91 rfl ?_
        refine JW.mget (v := vR 357) dX3_table_92 fX3_31 rfl ?_
        refine JW.iconst dX3_table_95 rfl ?_
        refine JW.mald 5 (x := ((cpT 1 (4 : Int) (0 : Int) f5) 0)) dX3_table_96 (Nat.le_of_ble_eq_true rfl) rfl (by decide) (by decide) rfl ?_
        exact JW.ireturn dX3_table_97 rfl rfl ⟨_, rfl, K⟩
      · have K := K.2 c_9
        refine JW.bipush dX3_table_82 rfl ?_
        exact JW.ireturn dX3_table_84 rfl rfl ⟨_, rfl, K⟩
    · have K := K.2 c_7
      refine JW.aload_n dX3_table_27 rfl ?_
      refine JW.mget (v := vR 357) dX3_table_28 fX3_31 rfl ?_
      refine JW.iconst dX3_table_31 rfl ?_
      refine JW.mald 5 (x := (f5 4)) dX3_table_32 (Nat.le_of_ble_eq_true rfl) rfl (by decide) (by decide) rfl ?_
      refine JW.if_ne (tgt := 43) dX3_table_33 rfl (fun c_12 => ?_) (fun c_12 => ?_)
      · have K := K.1 c_12
        refine JW.aload_n dX3_table_43 rfl ?_
        obtain ⟨o_13, K⟩ := K
        refine JW.mcall (As := []) dX3_table_44 vX3_line rfl q1730 (ctX3_line b (sS (sS (sS (sS (sS (sS (sS (sS (sS (sS (sS (sS (sA (sA (sA (sA (sA s 5 f5) 6 f6) 7 f7) 8 f8) 9 f9) 0 k0) 6 k6) 7 k7) 8 k8) 9 k9) 10 k10) 11 k11) 12 k12) 13 k13) 14 k14) 15 k15) 21 k21) o_13) (Nat.le_of_ble_eq_true rfl) rfl (Nat.le_of_ble_eq_true rfl) ?_
        rintro _ _ ⟨f_14, f_15, f_16, f_17, k_18, k_19, k_20, k_21, k_22, k_23, k_24, k_25, rfl, rfl, q_26⟩
        refine JW.steq (s2 := sS (sS (sS (sS (sS (sS (sS (sS (sS (sS (sS (sS (sA (sA (sA (sA (sA s 5 f5) 6 f_14) 7 f_15) 8 f_16) 9 f_17) 0 k0) 6 k6) 7 k_18) 8 k_19) 9 k_20) 10 k_21) 11 k_22) 12 k_23) 13 k_24) 14 k14) 15 k15) 21 k_25) (by simp only [sA_A, sS_S, sA_S, sA_lt, sS_lt, Nat.reduceLT, id_eq] <;> rfl) ?_
        replace K := K f_14 f_15 f_16 f_17 k_18 k_19 k_20 k_21 k_22 k_23 k_24 k_25 q_26
        refine JW.aload_n dX3_table_47 rfl ?_
        refine JW.mcall (As := []) dX3_table_48 vX3_isGood rfl q1687 (ctX3_isGood b (sS (sS (sS (sS (sS (sS (sS (sS (sS (sS (sS (sS (sA (sA (sA (sA (sA s 5 f5) 6 f_14) 7 f_15) 8 f_16) 9 f_17) 0 k0) 6 k6) 7 k_18) 8 k_19) 9 k_20) 10 k_21) 11 k_22) 12 k_23) 13 k_24) 14 k14) 15 k15) 21 k_25)) (Nat.le_of_ble_eq_true rfl) rfl (Nat.le_of_ble_eq_true rfl) ?_
        rintro _ _ ⟨rfl, eq_27⟩
        refine JW.steq (s2 := sS (sS (sS (sS (sS (sS (sS (sS (sS (sS (sS (sS (sA (sA (sA (sA (sA s 5 f5) 6 f_14) 7 f_15) 8 f_16) 9 f_17) 0 k0) 6 k6) 7 k_18) 8 k_19) 9 k_20) 10 k_21) 11 k_22) 12 k_23) 13 k_24) 14 k14) 15 k15) 21 k_25) eq_27 ?_
        refine JW.if_eq (tgt := 58) dX3_table_51 rfl (fun c_28 => ?_) (fun c_28 => ?_)
        · have K := K.1 c_28
          refine JW.aload_n dX3_table_58 rfl ?_
          refine JW.mget (v := vR 357) dX3_table_59 fX3_31 rfl ?_
          refine JW.iconst dX3_table_62 rfl ?_
          refine JW.dup2_11 dX3_table_63 rfl rfl ?_
          refine JW.mald 5 (x := (f5 4)) dX3_table_64 (Nat.le_of_ble_eq_true rfl) rfl (by decide) (by decide) rfl ?_
          refine JW.iconst dX3_table_65 rfl ?_
          refine JW.iadd dX3_table_66 ?_
          refine JW.mast 5 (f := f5) dX3_table_67 (Nat.le_of_ble_eq_true rfl) rfl (by decide) (by decide) rfl ?_
          refine JW.steq (s2 := sS (sS (sS (sS (sS (sS (sS (sS (sS (sS (sS (sS (sA (sA (sA (sA (sA s 5 (upI f5 4 (i32 ((f5 4) + 1)))) 6 f_14) 7 f_15) 8 f_16) 9 f_17) 0 k0) 6 k6) 7 k_18) 8 k_19) 9 k_20) 10 k_21) 11 k_22) 12 k_23) 13 k_24) 14 k14) 15 k15) 21 k_25) (by simp only [sA_A, sS_S, sA_S, sA_lt, sS_lt, Nat.reduceLT, id_eq] <;> rfl) ?_
          refine JW.goto (tgt := 13) dX3_table_68 rfl ?_
          exact JW.pick [0] rfl K
        · have K := K.2 c_28
          refine JW.aload_n dX3_table_54 rfl ?_
          obtain ⟨o_29, K⟩ := K
          refine JW.mcall (As := []) dX3_table_55 vX3_ends rfl q1765 (ctX3_ends b (sS (sS (sS (sS (sS (sS (sS (sS (sS (sS (sS (sS (sA (sA (sA (sA (sA s 5 f5) 6 f_14) 7 f_15) 8 f_16) 9 f_17) 0 k0) 6 k6) 7 k_18) 8 k_19) 9 k_20) 10 k_21) 11 k_22) 12 k_23) 13 k_24) 14 k14) 15 k15) 21 k_25) o_29) (Nat.le_of_ble_eq_true rfl) rfl (Nat.le_of_ble_eq_true rfl) ?_
          rintro _ _ ⟨k_30, k_31, k_32, k_33, k_34, k_35, k_36, rfl, rfl, q_37⟩
          refine JW.steq (s2 := sS (sS (sS (sS (sS (sS (sS (sS (sS (sS (sS (sS (sA (sA (sA (sA (sA s 5 f5) 6 f_14) 7 f_15) 8 f_16) 9 f_17) 0 k0) 6 k6) 7 k_30) 8 k_31) 9 k_32) 10 k_33) 11 k_34) 12 k_35) 13 k_36) 14 k14) 15 k15) 21 k_25) (by simp only [sA_A, sS_S, sA_S, sA_lt, sS_lt, Nat.reduceLT, id_eq] <;> rfl) ?_
          replace K := K k_30 k_31 k_32 k_33 k_34 k_35 k_36 q_37
          refine JW.aload_n dX3_table_58 rfl ?_
          refine JW.mget (v := vR 357) dX3_table_59 fX3_31 rfl ?_
          refine JW.iconst dX3_table_62 rfl ?_
          refine JW.dup2_11 dX3_table_63 rfl rfl ?_
          refine JW.mald 5 (x := (f5 4)) dX3_table_64 (Nat.le_of_ble_eq_true rfl) rfl (by decide) (by decide) rfl ?_
          refine JW.iconst dX3_table_65 rfl ?_
          refine JW.iadd dX3_table_66 ?_
          refine JW.mast 5 (f := f5) dX3_table_67 (Nat.le_of_ble_eq_true rfl) rfl (by decide) (by decide) rfl ?_
          refine JW.steq (s2 := sS (sS (sS (sS (sS (sS (sS (sS (sS (sS (sS (sS (sA (sA (sA (sA (sA s 5 (upI f5 4 (i32 ((f5 4) + 1)))) 6 f_14) 7 f_15) 8 f_16) 9 f_17) 0 k0) 6 k6) 7 k_30) 8 k_31) 9 k_32) 10 k_33) 11 k_34) 12 k_35) 13 k_36) 14 k14) 15 k15) 21 k_25) (by simp only [sA_A, sS_S, sA_S, sA_lt, sS_lt, Nat.reduceLT, id_eq] <;> rfl) ?_
          refine JW.goto (tgt := 13) dX3_table_68 rfl ?_
          exact JW.pick [0] rfl K
      · have K := K.2 c_12
        refine JW.aload_n dX3_table_36 rfl ?_
        obtain ⟨o_38, K⟩ := K
        refine JW.mcall (As := []) dX3_table_37 vX3_first rfl q1691 (ctX3_first b (sS (sS (sS (sS (sS (sS (sS (sS (sS (sS (sS (sS (sA (sA (sA (sA (sA s 5 f5) 6 f6) 7 f7) 8 f8) 9 f9) 0 k0) 6 k6) 7 k7) 8 k8) 9 k9) 10 k10) 11 k11) 12 k12) 13 k13) 14 k14) 15 k15) 21 k21) o_38) (Nat.le_of_ble_eq_true rfl) rfl (Nat.le_of_ble_eq_true rfl) ?_
        rintro _ _ ⟨f_39, k_40, k_41, k_42, k_43, k_44, k_45, k_46, rfl, rfl, q_47⟩
        refine JW.steq (s2 := sS (sS (sS (sS (sS (sS (sS (sS (sS (sS (sS (sS (sA (sA (sA (sA (sA s 5 f5) 6 f_39) 7 f7) 8 f8) 9 f9) 0 k0) 6 k6) 7 k_40) 8 k_41) 9 k_42) 10 k_43) 11 k_44) 12 k_45) 13 k_46) 14 k14) 15 k15) 21 k21) (by simp only [sA_A, sS_S, sA_S, sA_lt, sS_lt, Nat.reduceLT, id_eq] <;> rfl) ?_
        replace K := K f_39 k_40 k_41 k_42 k_43 k_44 k_45 k_46 q_47
        refine JW.goto (tgt := 47) dX3_table_40 rfl ?_
        refine JW.aload_n dX3_table_47 rfl ?_
        refine JW.mcall (As := []) dX3_table_48 vX3_isGood rfl q1687 (ctX3_isGood b (sS (sS (sS (sS (sS (sS (sS (sS (sS (sS (sS (sS (sA (sA (sA (sA (sA s 5 f5) 6 f_39) 7 f7) 8 f8) 9 f9) 0 k0) 6 k6) 7 k_40) 8 k_41) 9 k_42) 10 k_43) 11 k_44) 12 k_45) 13 k_46) 14 k14) 15 k15) 21 k21)) (Nat.le_of_ble_eq_true rfl) rfl (Nat.le_of_ble_eq_true rfl) ?_
        rintro _ _ ⟨rfl, eq_48⟩
        refine JW.steq (s2 := sS (sS (sS (sS (sS (sS (sS (sS (sS (sS (sS (sS (sA (sA (sA (sA (sA s 5 f5) 6 f_39) 7 f7) 8 f8) 9 f9) 0 k0) 6 k6) 7 k_40) 8 k_41) 9 k_42) 10 k_43) 11 k_44) 12 k_45) 13 k_46) 14 k14) 15 k15) 21 k21) eq_48 ?_
        refine JW.if_eq (tgt := 58) dX3_table_51 rfl (fun c_49 => ?_) (fun c_49 => ?_)
        · have K := K.1 c_49
          refine JW.aload_n dX3_table_58 rfl ?_
          refine JW.mget (v := vR 357) dX3_table_59 fX3_31 rfl ?_
          refine JW.iconst dX3_table_62 rfl ?_
          refine JW.dup2_11 dX3_table_63 rfl rfl ?_
          refine JW.mald 5 (x := (f5 4)) dX3_table_64 (Nat.le_of_ble_eq_true rfl) rfl (by decide) (by decide) rfl ?_
          refine JW.iconst dX3_table_65 rfl ?_
          refine JW.iadd dX3_table_66 ?_
          refine JW.mast 5 (f := f5) dX3_table_67 (Nat.le_of_ble_eq_true rfl) rfl (by decide) (by decide) rfl ?_
          refine JW.steq (s2 := sS (sS (sS (sS (sS (sS (sS (sS (sS (sS (sS (sS (sA (sA (sA (sA (sA s 5 (upI f5 4 (i32 ((f5 4) + 1)))) 6 f_39) 7 f7) 8 f8) 9 f9) 0 k0) 6 k6) 7 k_40) 8 k_41) 9 k_42) 10 k_43) 11 k_44) 12 k_45) 13 k_46) 14 k14) 15 k15) 21 k21) (by simp only [sA_A, sS_S, sA_S, sA_lt, sS_lt, Nat.reduceLT, id_eq] <;> rfl) ?_
          refine JW.goto (tgt := 13) dX3_table_68 rfl ?_
          exact JW.pick [0] rfl K
        · have K := K.2 c_49
          refine JW.aload_n dX3_table_54 rfl ?_
          obtain ⟨o_50, K⟩ := K
          refine JW.mcall (As := []) dX3_table_55 vX3_ends rfl q1765 (ctX3_ends b (sS (sS (sS (sS (sS (sS (sS (sS (sS (sS (sS (sS (sA (sA (sA (sA (sA s 5 f5) 6 f_39) 7 f7) 8 f8) 9 f9) 0 k0) 6 k6) 7 k_40) 8 k_41) 9 k_42) 10 k_43) 11 k_44) 12 k_45) 13 k_46) 14 k14) 15 k15) 21 k21) o_50) (Nat.le_of_ble_eq_true rfl) rfl (Nat.le_of_ble_eq_true rfl) ?_
          rintro _ _ ⟨k_51, k_52, k_53, k_54, k_55, k_56, k_57, rfl, rfl, q_58⟩
          refine JW.steq (s2 := sS (sS (sS (sS (sS (sS (sS (sS (sS (sS (sS (sS (sA (sA (sA (sA (sA s 5 f5) 6 f_39) 7 f7) 8 f8) 9 f9) 0 k0) 6 k6) 7 k_51) 8 k_52) 9 k_53) 10 k_54) 11 k_55) 12 k_56) 13 k_57) 14 k14) 15 k15) 21 k21) (by simp only [sA_A, sS_S, sA_S, sA_lt, sS_lt, Nat.reduceLT, id_eq] <;> rfl) ?_
          replace K := K k_51 k_52 k_53 k_54 k_55 k_56 k_57 q_58
          refine JW.aload_n dX3_table_58 rfl ?_
          refine JW.mget (v := vR 357) dX3_table_59 fX3_31 rfl ?_
          refine JW.iconst dX3_table_62 rfl ?_
          refine JW.dup2_11 dX3_table_63 rfl rfl ?_
          refine JW.mald 5 (x := (f5 4)) dX3_table_64 (Nat.le_of_ble_eq_true rfl) rfl (by decide) (by decide) rfl ?_
          refine JW.iconst dX3_table_65 rfl ?_
          refine JW.iadd dX3_table_66 ?_
          refine JW.mast 5 (f := f5) dX3_table_67 (Nat.le_of_ble_eq_true rfl) rfl (by decide) (by decide) rfl ?_
          refine JW.steq (s2 := sS (sS (sS (sS (sS (sS (sS (sS (sS (sS (sS (sS (sA (sA (sA (sA (sA s 5 (upI f5 4 (i32 ((f5 4) + 1)))) 6 f_39) 7 f7) 8 f8) 9 f9) 0 k0) 6 k6) 7 k_51) 8 k_52) 9 k_53) 10 k_54) 11 k_55) 12 k_56) 13 k_57) 14 k14) 15 k15) 21 k21) (by simp only [sA_A, sS_S, sA_S, sA_lt, sS_lt, Nat.reduceLT, id_eq] <;> rfl) ?_
          refine JW.goto (tgt := 13) dX3_table_68 rfl ?_
          exact JW.pick [0] rfl K
def QX3_table (s : MS) : Option AV → MS → Prop := fun v s' => ∃ (f5 : Int → Int) (f6 : Int → Int) (f7 : Int → Int) (f8 : Int → Int) (f9 : Int → Int) (k7 : Int) (k8 : Int) (k9 : Int) (k10 : Int) (k11 : Int) (k12 : Int) (k13 : Int) (k14 : Int) (k15 : Int) (k21 : Int) (r : Int), v = some (vI r) ∧ s' = sS (sS (sS (sS (sS (sS (sS (sS (sS (sS (sS (sS (sA (sA (sA (sA (sA s 5 f5) 6 f6) 7 f7) 8 f8) 9 f9) 0 (0)) 6 (0)) 7 k7) 8 k8) 9 k9) 10 k10) 11 k11) 12 k12) 13 k13) 14 k14) 15 k15) 21 k21 ∧ (tabQ (textP (s.2 4) (s.1 6) 801 (rep (fillC (s.2 6) 24 6 0) (s.2 7) (s.2 8) (s.2 9) 0) 0 0) (s.2 5) (s.2 6) (s.2 7) (s.2 8) (s.2 9) f5 f6 f7 f8 f9 r k14 k15)
theorem vX3_table_1 (s : MS) (hp : 0 ≤ (s.1 6) ∧ (s.1 6) ≤ 800) (f5 : Int → Int) (f6 : Int → Int) (f7 : Int → Int) (f8 : Int → Int) (f9 : Int → Int) (k0 : Int) (k6 : Int) (k7 : Int) (k8 : Int) (k9 : Int) (k10 : Int) (k11 : Int) (k12 : Int) (k13 : Int) (k14 : Int) (k15 : Int) (k21 : Int) (hI : k0 = 0 ∧ (k6 = s.1 6 ∧ k14 = s.1 14 ∧ k15 = s.1 15) ∧ (0 ≤ k7 ∧ k7 ≤ s.1 6) ∧ (∀ z, z ≠ 4 → f5 z = s.2 5 z) ∧ (∀ z, z < 24 → f6 z = s.2 6 z) ∧ (∀ z, z < 96 → f7 z = s.2 7 z) ∧ (∀ z, z < 96 → f8 z = s.2 8 z) ∧ (∀ z, z < 80 → f9 z = s.2 9 z) ∧ TI (s.2 4) (s.1 6) (textP (s.2 4) (s.1 6) 801 (rep (fillC (s.2 6) 24 6 0) (s.2 7) (s.2 8) (s.2 9) 0) 0 0) (rep f6 f7 f8 f9 k21) (f5 4) k7 k8 k9 k10 k11 k12 k13) (c_2 : (bI (k12 = 0)) = 0) (c_4 : k12 = 0) : ((0 ≤ (4 : Int) ∧ (4 : Int) ≤ 4) ∧ (0 ≤ (0 : Int) ∧ (0 : Int) ≤ 4) ∧ (4 : Int) ≠ (0 : Int)) := by
  (try (have h2 := hI; obtain ⟨i0, ⟨i1, i2, i3⟩, i4, i5, i6, i7, i8, i9, hT⟩ := h2; subst i0 i1 i2 i3))
  (try simp only [bI_0, bI_n, Classical.not_not, Int.add_zero, Int.reduceAdd, upI_s] at *)
  (try have hb := TI_b hT (by assumption))
  (try have hg := hb.2.2 (by assumption))
  (try (have g0 := hg.1.1; have g2 := hg.1.2.2.1; have g3 := hg.1.2.2.2.1; have g4 := hg.1.2.2.2.2.1; have g5 := hg.1.2.2.2.2.2.1; have g6 := hg.1.2.2.2.2.2.2; change 2 ≤ f6 24 ∧ f6 24 ≤ 16 at g0; change f6 26 = _ ∧ f6 26 ≤ 10000 at g2; change 0 ≤ f6 27 ∧ f6 27 ≤ 12 at g3; change 0 ≤ f6 28 ∧ f6 28 ≤ 6 at g4; change 0 ≤ f6 29 ∧ f6 29 ≤ 20 at g5; change k21 = 0 → f6 27 = 0 at g6; clear hg))
  (try have gh2 : 0 ≤ f6 26 := by (rw [g2.1]; exact Int.le_of_lt (Int.pow_pos (by (change 0 < f6 24; omega)))))
  (try simp (disch := omega) only [i32_id] at *)
  (try have w1 := lnQ_eq (P' := fun p => if f5 4 = 0 then firstP (s.2 4) (s.1 6) (rep f6 f7 f8 f9 k21) p else lineP (s.2 4) (s.1 6) (rep f6 f7 f8 f9 k21) p) q_26.1 (fun p => if_neg c_12))
  (try have w1 := lnQ_eq (P' := fun p => if f5 4 = 0 then firstP (s.2 4) (s.1 6) (rep f6 f7 f8 f9 k21) p else lineP (s.2 4) (s.1 6) (rep f6 f7 f8 f9 k21) p) q_47.1 (fun p => if_pos c_12))
  (try have w2 := w1.1)
  (try have w3 := q_37.1)
  (try have w3 := q_58.1)
  (try unfold lex3)
  (try simp only [bI_0, bI_n, Classical.not_not] at *)
  (try simp (disch := omega) only [i32_id] at *)
  first | done | omega | ((repeat' (with_reducible apply And.intro)) <;> first | assumption | rfl | omega | (exact tab_ok (TI_end4 hT (by assumption) (by assumption) (by omega)) rfl (by assumption) i5 i6 i7 i8 i9) | (exact tab_err (hT.2 (by assumption)) (by assumption) i5 i6 i7 i8 i9) | (exact i5) | (exact i6) | (exact i7) | (exact i8) | (exact i9) | (intro z hz; rw [upI_n _ _ hz]; exact i5 z hz) | (intro z hz; rw [upI_n _ _ hz]) | (intro z hz; rw [q_47.2 z (by omega)]; exact i6 z hz) | (intro z hz; rw [q_26.2.1 z hz]; exact i6 z hz) | (intro z hz; rw [q_26.2.2.1 z hz]; exact i7 z hz) | (intro z hz; rw [q_26.2.2.2.1 z hz]; exact i8 z hz) | (intro z hz; rw [q_26.2.2.2.2 z hz]; exact i9 z hz) | (exact TI_bad hT (by assumption) (by assumption) w1 (by assumption)) | (exact TI_go hT (by assumption) (by assumption) w1 (by assumption) q_37 rfl) | (exact TI_go hT (by assumption) (by assumption) w1 (by assumption) q_58 rfl) | (exact TI_begin hp.1 hp.2 GR_0) | (have h9 := enx_b (t := s.2 4) hp.1; omega) | (intro z hz; exact if_neg (by omega)) | grind [upI])
theorem vX3_table_2 (s : MS) (hp : 0 ≤ (s.1 6) ∧ (s.1 6) ≤ 800) (f5 : Int → Int) (f6 : Int → Int) (f7 : Int → Int) (f8 : Int → Int) (f9 : Int → Int) (k0 : Int) (k6 : Int) (k7 : Int) (k8 : Int) (k9 : Int) (k10 : Int) (k11 : Int) (k12 : Int) (k13 : Int) (k14 : Int) (k15 : Int) (k21 : Int) (hI : k0 = 0 ∧ (k6 = s.1 6 ∧ k14 = s.1 14 ∧ k15 = s.1 15) ∧ (0 ≤ k7 ∧ k7 ≤ s.1 6) ∧ (∀ z, z ≠ 4 → f5 z = s.2 5 z) ∧ (∀ z, z < 24 → f6 z = s.2 6 z) ∧ (∀ z, z < 96 → f7 z = s.2 7 z) ∧ (∀ z, z < 96 → f8 z = s.2 8 z) ∧ (∀ z, z < 80 → f9 z = s.2 9 z) ∧ TI (s.2 4) (s.1 6) (textP (s.2 4) (s.1 6) 801 (rep (fillC (s.2 6) 24 6 0) (s.2 7) (s.2 8) (s.2 9) 0) 0 0) (rep f6 f7 f8 f9 k21) (f5 4) k7 k8 k9 k10 k11 k12 k13) (c_2 : (bI (k12 = 0)) = 0) (c_4 : k12 = 0) (o_5 : ((0 ≤ (4 : Int) ∧ (4 : Int) ≤ 4) ∧ (0 ≤ (0 : Int) ∧ (0 : Int) ≤ 4) ∧ (4 : Int) ≠ (0 : Int))) : k0 = (0) := by
  (try (have h2 := hI; obtain ⟨i0, ⟨i1, i2, i3⟩, i4, i5, i6, i7, i8, i9, hT⟩ := h2; subst i0 i1 i2 i3))
  (try simp only [bI_0, bI_n, Classical.not_not, Int.add_zero, Int.reduceAdd, upI_s] at *)
  (try have hb := TI_b hT (by assumption))
  (try have hg := hb.2.2 (by assumption))
  (try (have g0 := hg.1.1; have g2 := hg.1.2.2.1; have g3 := hg.1.2.2.2.1; have g4 := hg.1.2.2.2.2.1; have g5 := hg.1.2.2.2.2.2.1; have g6 := hg.1.2.2.2.2.2.2; change 2 ≤ f6 24 ∧ f6 24 ≤ 16 at g0; change f6 26 = _ ∧ f6 26 ≤ 10000 at g2; change 0 ≤ f6 27 ∧ f6 27 ≤ 12 at g3; change 0 ≤ f6 28 ∧ f6 28 ≤ 6 at g4; change 0 ≤ f6 29 ∧ f6 29 ≤ 20 at g5; change k21 = 0 → f6 27 = 0 at g6; clear hg))
  (try have gh2 : 0 ≤ f6 26 := by (rw [g2.1]; exact Int.le_of_lt (Int.pow_pos (by (change 0 < f6 24; omega)))))
  (try simp (disch := omega) only [i32_id] at *)
  (try have w1 := lnQ_eq (P' := fun p => if f5 4 = 0 then firstP (s.2 4) (s.1 6) (rep f6 f7 f8 f9 k21) p else lineP (s.2 4) (s.1 6) (rep f6 f7 f8 f9 k21) p) q_26.1 (fun p => if_neg c_12))
  (try have w1 := lnQ_eq (P' := fun p => if f5 4 = 0 then firstP (s.2 4) (s.1 6) (rep f6 f7 f8 f9 k21) p else lineP (s.2 4) (s.1 6) (rep f6 f7 f8 f9 k21) p) q_47.1 (fun p => if_pos c_12))
  (try have w2 := w1.1)
  (try have w3 := q_37.1)
  (try have w3 := q_58.1)
  (try unfold lex3)
  (try simp only [bI_0, bI_n, Classical.not_not] at *)
  (try simp (disch := omega) only [i32_id] at *)
  first | done | omega | ((repeat' (with_reducible apply And.intro)) <;> first | assumption | rfl | omega | (exact tab_ok (TI_end4 hT (by assumption) (by assumption) (by omega)) rfl (by assumption) i5 i6 i7 i8 i9) | (exact tab_err (hT.2 (by assumption)) (by assumption) i5 i6 i7 i8 i9) | (exact i5) | (exact i6) | (exact i7) | (exact i8) | (exact i9) | (intro z hz; rw [upI_n _ _ hz]; exact i5 z hz) | (intro z hz; rw [upI_n _ _ hz]) | (intro z hz; rw [q_47.2 z (by omega)]; exact i6 z hz) | (intro z hz; rw [q_26.2.1 z hz]; exact i6 z hz) | (intro z hz; rw [q_26.2.2.1 z hz]; exact i7 z hz) | (intro z hz; rw [q_26.2.2.2.1 z hz]; exact i8 z hz) | (intro z hz; rw [q_26.2.2.2.2 z hz]; exact i9 z hz) | (exact TI_bad hT (by assumption) (by assumption) w1 (by assumption)) | (exact TI_go hT (by assumption) (by assumption) w1 (by assumption) q_37 rfl) | (exact TI_go hT (by assumption) (by assumption) w1 (by assumption) q_58 rfl) | (exact TI_begin hp.1 hp.2 GR_0) | (have h9 := enx_b (t := s.2 4) hp.1; omega) | (intro z hz; exact if_neg (by omega)) | grind [upI])
theorem vX3_table_3 (s : MS) (hp : 0 ≤ (s.1 6) ∧ (s.1 6) ≤ 800) (f5 : Int → Int) (f6 : Int → Int) (f7 : Int → Int) (f8 : Int → Int) (f9 : Int → Int) (k0 : Int) (k6 : Int) (k7 : Int) (k8 : Int) (k9 : Int) (k10 : Int) (k11 : Int) (k12 : Int) (k13 : Int) (k14 : Int) (k15 : Int) (k21 : Int) (hI : k0 = 0 ∧ (k6 = s.1 6 ∧ k14 = s.1 14 ∧ k15 = s.1 15) ∧ (0 ≤ k7 ∧ k7 ≤ s.1 6) ∧ (∀ z, z ≠ 4 → f5 z = s.2 5 z) ∧ (∀ z, z < 24 → f6 z = s.2 6 z) ∧ (∀ z, z < 96 → f7 z = s.2 7 z) ∧ (∀ z, z < 96 → f8 z = s.2 8 z) ∧ (∀ z, z < 80 → f9 z = s.2 9 z) ∧ TI (s.2 4) (s.1 6) (textP (s.2 4) (s.1 6) 801 (rep (fillC (s.2 6) 24 6 0) (s.2 7) (s.2 8) (s.2 9) 0) 0 0) (rep f6 f7 f8 f9 k21) (f5 4) k7 k8 k9 k10 k11 k12 k13) (c_2 : (bI (k12 = 0)) = 0) (c_4 : k12 = 0) (o_5 : ((0 ≤ (4 : Int) ∧ (4 : Int) ≤ 4) ∧ (0 ≤ (0 : Int) ∧ (0 : Int) ≤ 4) ∧ (4 : Int) ≠ (0 : Int))) : tabQ (textP (s.2 4) (s.1 6) 801 (rep (fillC (s.2 6) 24 6 0) (s.2 7) (s.2 8) (s.2 9) 0) 0 0) (s.2 5) (s.2 6) (s.2 7) (s.2 8) (s.2 9) (cpT 1 (4 : Int) (0 : Int) f5) (cpT 6 (4 : Int) (0 : Int) f6) (cpT 24 (4 : Int) (0 : Int) f7) (cpT 24 (4 : Int) (0 : Int) f8) (cpT 20 (4 : Int) (0 : Int) f9) ((cpT 1 (4 : Int) (0 : Int) f5) 0) (k12) (if k12 = 0 then -1 else k13) := by
  (try (have h2 := hI; obtain ⟨i0, ⟨i1, i2, i3⟩, i4, i5, i6, i7, i8, i9, hT⟩ := h2; subst i0 i1 i2 i3))
  (try simp only [bI_0, bI_n, Classical.not_not, Int.add_zero, Int.reduceAdd, upI_s] at *)
  (try have hb := TI_b hT (by assumption))
  (try have hg := hb.2.2 (by assumption))
  (try (have g0 := hg.1.1; have g2 := hg.1.2.2.1; have g3 := hg.1.2.2.2.1; have g4 := hg.1.2.2.2.2.1; have g5 := hg.1.2.2.2.2.2.1; have g6 := hg.1.2.2.2.2.2.2; change 2 ≤ f6 24 ∧ f6 24 ≤ 16 at g0; change f6 26 = _ ∧ f6 26 ≤ 10000 at g2; change 0 ≤ f6 27 ∧ f6 27 ≤ 12 at g3; change 0 ≤ f6 28 ∧ f6 28 ≤ 6 at g4; change 0 ≤ f6 29 ∧ f6 29 ≤ 20 at g5; change k21 = 0 → f6 27 = 0 at g6; clear hg))
  (try have gh2 : 0 ≤ f6 26 := by (rw [g2.1]; exact Int.le_of_lt (Int.pow_pos (by (change 0 < f6 24; omega)))))
  (try simp (disch := omega) only [i32_id] at *)
  (try have w1 := lnQ_eq (P' := fun p => if f5 4 = 0 then firstP (s.2 4) (s.1 6) (rep f6 f7 f8 f9 k21) p else lineP (s.2 4) (s.1 6) (rep f6 f7 f8 f9 k21) p) q_26.1 (fun p => if_neg c_12))
  (try have w1 := lnQ_eq (P' := fun p => if f5 4 = 0 then firstP (s.2 4) (s.1 6) (rep f6 f7 f8 f9 k21) p else lineP (s.2 4) (s.1 6) (rep f6 f7 f8 f9 k21) p) q_47.1 (fun p => if_pos c_12))
  (try have w2 := w1.1)
  (try have w3 := q_37.1)
  (try have w3 := q_58.1)
  (try unfold lex3)
  (try simp only [bI_0, bI_n, Classical.not_not] at *)
  (try simp (disch := omega) only [i32_id] at *)
  first | done | omega | ((repeat' (with_reducible apply And.intro)) <;> first | assumption | rfl | omega | (exact tab_ok (TI_end4 hT (by assumption) (by assumption) (by omega)) rfl (by assumption) i5 i6 i7 i8 i9) | (exact tab_err (hT.2 (by assumption)) (by assumption) i5 i6 i7 i8 i9) | (exact i5) | (exact i6) | (exact i7) | (exact i8) | (exact i9) | (intro z hz; rw [upI_n _ _ hz]; exact i5 z hz) | (intro z hz; rw [upI_n _ _ hz]) | (intro z hz; rw [q_47.2 z (by omega)]; exact i6 z hz) | (intro z hz; rw [q_26.2.1 z hz]; exact i6 z hz) | (intro z hz; rw [q_26.2.2.1 z hz]; exact i7 z hz) | (intro z hz; rw [q_26.2.2.2.1 z hz]; exact i8 z hz) | (intro z hz; rw [q_26.2.2.2.2 z hz]; exact i9 z hz) | (exact TI_bad hT (by assumption) (by assumption) w1 (by assumption)) | (exact TI_go hT (by assumption) (by assumption) w1 (by assumption) q_37 rfl) | (exact TI_go hT (by assumption) (by assumption) w1 (by assumption) q_58 rfl) | (exact TI_begin hp.1 hp.2 GR_0) | (have h9 := enx_b (t := s.2 4) hp.1; omega) | (intro z hz; exact if_neg (by omega)) | grind [upI])
theorem vX3_table_4 (s : MS) (hp : 0 ≤ (s.1 6) ∧ (s.1 6) ≤ 800) (f5 : Int → Int) (f6 : Int → Int) (f7 : Int → Int) (f8 : Int → Int) (f9 : Int → Int) (k0 : Int) (k6 : Int) (k7 : Int) (k8 : Int) (k9 : Int) (k10 : Int) (k11 : Int) (k12 : Int) (k13 : Int) (k14 : Int) (k15 : Int) (k21 : Int) (hI : k0 = 0 ∧ (k6 = s.1 6 ∧ k14 = s.1 14 ∧ k15 = s.1 15) ∧ (0 ≤ k7 ∧ k7 ≤ s.1 6) ∧ (∀ z, z ≠ 4 → f5 z = s.2 5 z) ∧ (∀ z, z < 24 → f6 z = s.2 6 z) ∧ (∀ z, z < 96 → f7 z = s.2 7 z) ∧ (∀ z, z < 96 → f8 z = s.2 8 z) ∧ (∀ z, z < 80 → f9 z = s.2 9 z) ∧ TI (s.2 4) (s.1 6) (textP (s.2 4) (s.1 6) 801 (rep (fillC (s.2 6) 24 6 0) (s.2 7) (s.2 8) (s.2 9) 0) 0 0) (rep f6 f7 f8 f9 k21) (f5 4) k7 k8 k9 k10 k11 k12 k13) (c_2 : (bI (k12 = 0)) = 0) (c_4 : ¬ k12 = 0) : k0 = (0) := by
  (try (have h2 := hI; obtain ⟨i0, ⟨i1, i2, i3⟩, i4, i5, i6, i7, i8, i9, hT⟩ := h2; subst i0 i1 i2 i3))
  (try simp only [bI_0, bI_n, Classical.not_not, Int.add_zero, Int.reduceAdd, upI_s] at *)
  (try have hb := TI_b hT (by assumption))
  (try have hg := hb.2.2 (by assumption))
  (try (have g0 := hg.1.1; have g2 := hg.1.2.2.1; have g3 := hg.1.2.2.2.1; have g4 := hg.1.2.2.2.2.1; have g5 := hg.1.2.2.2.2.2.1; have g6 := hg.1.2.2.2.2.2.2; change 2 ≤ f6 24 ∧ f6 24 ≤ 16 at g0; change f6 26 = _ ∧ f6 26 ≤ 10000 at g2; change 0 ≤ f6 27 ∧ f6 27 ≤ 12 at g3; change 0 ≤ f6 28 ∧ f6 28 ≤ 6 at g4; change 0 ≤ f6 29 ∧ f6 29 ≤ 20 at g5; change k21 = 0 → f6 27 = 0 at g6; clear hg))
  (try have gh2 : 0 ≤ f6 26 := by (rw [g2.1]; exact Int.le_of_lt (Int.pow_pos (by (change 0 < f6 24; omega)))))
  (try simp (disch := omega) only [i32_id] at *)
  (try have w1 := lnQ_eq (P' := fun p => if f5 4 = 0 then firstP (s.2 4) (s.1 6) (rep f6 f7 f8 f9 k21) p else lineP (s.2 4) (s.1 6) (rep f6 f7 f8 f9 k21) p) q_26.1 (fun p => if_neg c_12))
  (try have w1 := lnQ_eq (P' := fun p => if f5 4 = 0 then firstP (s.2 4) (s.1 6) (rep f6 f7 f8 f9 k21) p else lineP (s.2 4) (s.1 6) (rep f6 f7 f8 f9 k21) p) q_47.1 (fun p => if_pos c_12))
  (try have w2 := w1.1)
  (try have w3 := q_37.1)
  (try have w3 := q_58.1)
  (try unfold lex3)
  (try simp only [bI_0, bI_n, Classical.not_not] at *)
  (try simp (disch := omega) only [i32_id] at *)
  first | done | omega | ((repeat' (with_reducible apply And.intro)) <;> first | assumption | rfl | omega | (exact tab_ok (TI_end4 hT (by assumption) (by assumption) (by omega)) rfl (by assumption) i5 i6 i7 i8 i9) | (exact tab_err (hT.2 (by assumption)) (by assumption) i5 i6 i7 i8 i9) | (exact i5) | (exact i6) | (exact i7) | (exact i8) | (exact i9) | (intro z hz; rw [upI_n _ _ hz]; exact i5 z hz) | (intro z hz; rw [upI_n _ _ hz]) | (intro z hz; rw [q_47.2 z (by omega)]; exact i6 z hz) | (intro z hz; rw [q_26.2.1 z hz]; exact i6 z hz) | (intro z hz; rw [q_26.2.2.1 z hz]; exact i7 z hz) | (intro z hz; rw [q_26.2.2.2.1 z hz]; exact i8 z hz) | (intro z hz; rw [q_26.2.2.2.2 z hz]; exact i9 z hz) | (exact TI_bad hT (by assumption) (by assumption) w1 (by assumption)) | (exact TI_go hT (by assumption) (by assumption) w1 (by assumption) q_37 rfl) | (exact TI_go hT (by assumption) (by assumption) w1 (by assumption) q_58 rfl) | (exact TI_begin hp.1 hp.2 GR_0) | (have h9 := enx_b (t := s.2 4) hp.1; omega) | (intro z hz; exact if_neg (by omega)) | grind [upI])
theorem vX3_table_5 (s : MS) (hp : 0 ≤ (s.1 6) ∧ (s.1 6) ≤ 800) (f5 : Int → Int) (f6 : Int → Int) (f7 : Int → Int) (f8 : Int → Int) (f9 : Int → Int) (k0 : Int) (k6 : Int) (k7 : Int) (k8 : Int) (k9 : Int) (k10 : Int) (k11 : Int) (k12 : Int) (k13 : Int) (k14 : Int) (k15 : Int) (k21 : Int) (hI : k0 = 0 ∧ (k6 = s.1 6 ∧ k14 = s.1 14 ∧ k15 = s.1 15) ∧ (0 ≤ k7 ∧ k7 ≤ s.1 6) ∧ (∀ z, z ≠ 4 → f5 z = s.2 5 z) ∧ (∀ z, z < 24 → f6 z = s.2 6 z) ∧ (∀ z, z < 96 → f7 z = s.2 7 z) ∧ (∀ z, z < 96 → f8 z = s.2 8 z) ∧ (∀ z, z < 80 → f9 z = s.2 9 z) ∧ TI (s.2 4) (s.1 6) (textP (s.2 4) (s.1 6) 801 (rep (fillC (s.2 6) 24 6 0) (s.2 7) (s.2 8) (s.2 9) 0) 0 0) (rep f6 f7 f8 f9 k21) (f5 4) k7 k8 k9 k10 k11 k12 k13) (c_2 : (bI (k12 = 0)) = 0) (c_4 : ¬ k12 = 0) : tabQ (textP (s.2 4) (s.1 6) 801 (rep (fillC (s.2 6) 24 6 0) (s.2 7) (s.2 8) (s.2 9) 0) 0 0) (s.2 5) (s.2 6) (s.2 7) (s.2 8) (s.2 9) f5 f6 f7 f8 f9 (-4) (k12) (if k12 = 0 then -1 else k13) := by
  (try (have h2 := hI; obtain ⟨i0, ⟨i1, i2, i3⟩, i4, i5, i6, i7, i8, i9, hT⟩ := h2; subst i0 i1 i2 i3))
  (try simp only [bI_0, bI_n, Classical.not_not, Int.add_zero, Int.reduceAdd, upI_s] at *)
  (try have hb := TI_b hT (by assumption))
  (try have hg := hb.2.2 (by assumption))
  (try (have g0 := hg.1.1; have g2 := hg.1.2.2.1; have g3 := hg.1.2.2.2.1; have g4 := hg.1.2.2.2.2.1; have g5 := hg.1.2.2.2.2.2.1; have g6 := hg.1.2.2.2.2.2.2; change 2 ≤ f6 24 ∧ f6 24 ≤ 16 at g0; change f6 26 = _ ∧ f6 26 ≤ 10000 at g2; change 0 ≤ f6 27 ∧ f6 27 ≤ 12 at g3; change 0 ≤ f6 28 ∧ f6 28 ≤ 6 at g4; change 0 ≤ f6 29 ∧ f6 29 ≤ 20 at g5; change k21 = 0 → f6 27 = 0 at g6; clear hg))
  (try have gh2 : 0 ≤ f6 26 := by (rw [g2.1]; exact Int.le_of_lt (Int.pow_pos (by (change 0 < f6 24; omega)))))
  (try simp (disch := omega) only [i32_id] at *)
  (try have w1 := lnQ_eq (P' := fun p => if f5 4 = 0 then firstP (s.2 4) (s.1 6) (rep f6 f7 f8 f9 k21) p else lineP (s.2 4) (s.1 6) (rep f6 f7 f8 f9 k21) p) q_26.1 (fun p => if_neg c_12))
  (try have w1 := lnQ_eq (P' := fun p => if f5 4 = 0 then firstP (s.2 4) (s.1 6) (rep f6 f7 f8 f9 k21) p else lineP (s.2 4) (s.1 6) (rep f6 f7 f8 f9 k21) p) q_47.1 (fun p => if_pos c_12))
  (try have w2 := w1.1)
  (try have w3 := q_37.1)
  (try have w3 := q_58.1)
  (try unfold lex3)
  (try simp only [bI_0, bI_n, Classical.not_not] at *)
  (try simp (disch := omega) only [i32_id] at *)
  first | done | omega | ((repeat' (with_reducible apply And.intro)) <;> first | assumption | rfl | omega | (exact tab_ok (TI_end4 hT (by assumption) (by assumption) (by omega)) rfl (by assumption) i5 i6 i7 i8 i9) | (exact tab_err (hT.2 (by assumption)) (by assumption) i5 i6 i7 i8 i9) | (exact i5) | (exact i6) | (exact i7) | (exact i8) | (exact i9) | (intro z hz; rw [upI_n _ _ hz]; exact i5 z hz) | (intro z hz; rw [upI_n _ _ hz]) | (intro z hz; rw [q_47.2 z (by omega)]; exact i6 z hz) | (intro z hz; rw [q_26.2.1 z hz]; exact i6 z hz) | (intro z hz; rw [q_26.2.2.1 z hz]; exact i7 z hz) | (intro z hz; rw [q_26.2.2.2.1 z hz]; exact i8 z hz) | (intro z hz; rw [q_26.2.2.2.2 z hz]; exact i9 z hz) | (exact TI_bad hT (by assumption) (by assumption) w1 (by assumption)) | (exact TI_go hT (by assumption) (by assumption) w1 (by assumption) q_37 rfl) | (exact TI_go hT (by assumption) (by assumption) w1 (by assumption) q_58 rfl) | (exact TI_begin hp.1 hp.2 GR_0) | (have h9 := enx_b (t := s.2 4) hp.1; omega) | (intro z hz; exact if_neg (by omega)) | grind [upI])
theorem vX3_table_6 (s : MS) (hp : 0 ≤ (s.1 6) ∧ (s.1 6) ≤ 800) (f5 : Int → Int) (f6 : Int → Int) (f7 : Int → Int) (f8 : Int → Int) (f9 : Int → Int) (k0 : Int) (k6 : Int) (k7 : Int) (k8 : Int) (k9 : Int) (k10 : Int) (k11 : Int) (k12 : Int) (k13 : Int) (k14 : Int) (k15 : Int) (k21 : Int) (hI : k0 = 0 ∧ (k6 = s.1 6 ∧ k14 = s.1 14 ∧ k15 = s.1 15) ∧ (0 ≤ k7 ∧ k7 ≤ s.1 6) ∧ (∀ z, z ≠ 4 → f5 z = s.2 5 z) ∧ (∀ z, z < 24 → f6 z = s.2 6 z) ∧ (∀ z, z < 96 → f7 z = s.2 7 z) ∧ (∀ z, z < 96 → f8 z = s.2 8 z) ∧ (∀ z, z < 80 → f9 z = s.2 9 z) ∧ TI (s.2 4) (s.1 6) (textP (s.2 4) (s.1 6) 801 (rep (fillC (s.2 6) 24 6 0) (s.2 7) (s.2 8) (s.2 9) 0) 0 0) (rep f6 f7 f8 f9 k21) (f5 4) k7 k8 k9 k10 k11 k12 k13) (c_2 : ¬ (bI (k12 = 0)) = 0) (c_7 : k8 = 0) (c_9 : k12 = 0) : ((0 ≤ (4 : Int) ∧ (4 : Int) ≤ 4) ∧ (0 ≤ (0 : Int) ∧ (0 : Int) ≤ 4) ∧ (4 : Int) ≠ (0 : Int)) := by
  (try (have h2 := hI; obtain ⟨i0, ⟨i1, i2, i3⟩, i4, i5, i6, i7, i8, i9, hT⟩ := h2; subst i0 i1 i2 i3))
  (try simp only [bI_0, bI_n, Classical.not_not, Int.add_zero, Int.reduceAdd, upI_s] at *)
  (try have hb := TI_b hT (by assumption))
  (try have hg := hb.2.2 (by assumption))
  (try (have g0 := hg.1.1; have g2 := hg.1.2.2.1; have g3 := hg.1.2.2.2.1; have g4 := hg.1.2.2.2.2.1; have g5 := hg.1.2.2.2.2.2.1; have g6 := hg.1.2.2.2.2.2.2; change 2 ≤ f6 24 ∧ f6 24 ≤ 16 at g0; change f6 26 = _ ∧ f6 26 ≤ 10000 at g2; change 0 ≤ f6 27 ∧ f6 27 ≤ 12 at g3; change 0 ≤ f6 28 ∧ f6 28 ≤ 6 at g4; change 0 ≤ f6 29 ∧ f6 29 ≤ 20 at g5; change k21 = 0 → f6 27 = 0 at g6; clear hg))
  (try have gh2 : 0 ≤ f6 26 := by (rw [g2.1]; exact Int.le_of_lt (Int.pow_pos (by (change 0 < f6 24; omega)))))
  (try simp (disch := omega) only [i32_id] at *)
  (try have w1 := lnQ_eq (P' := fun p => if f5 4 = 0 then firstP (s.2 4) (s.1 6) (rep f6 f7 f8 f9 k21) p else lineP (s.2 4) (s.1 6) (rep f6 f7 f8 f9 k21) p) q_26.1 (fun p => if_neg c_12))
  (try have w1 := lnQ_eq (P' := fun p => if f5 4 = 0 then firstP (s.2 4) (s.1 6) (rep f6 f7 f8 f9 k21) p else lineP (s.2 4) (s.1 6) (rep f6 f7 f8 f9 k21) p) q_47.1 (fun p => if_pos c_12))
  (try have w2 := w1.1)
  (try have w3 := q_37.1)
  (try have w3 := q_58.1)
  (try unfold lex3)
  (try simp only [bI_0, bI_n, Classical.not_not] at *)
  (try simp (disch := omega) only [i32_id] at *)
  first | done | omega | ((repeat' (with_reducible apply And.intro)) <;> first | assumption | rfl | omega | (exact tab_ok (TI_end4 hT (by assumption) (by assumption) (by omega)) rfl (by assumption) i5 i6 i7 i8 i9) | (exact tab_err (hT.2 (by assumption)) (by assumption) i5 i6 i7 i8 i9) | (exact i5) | (exact i6) | (exact i7) | (exact i8) | (exact i9) | (intro z hz; rw [upI_n _ _ hz]; exact i5 z hz) | (intro z hz; rw [upI_n _ _ hz]) | (intro z hz; rw [q_47.2 z (by omega)]; exact i6 z hz) | (intro z hz; rw [q_26.2.1 z hz]; exact i6 z hz) | (intro z hz; rw [q_26.2.2.1 z hz]; exact i7 z hz) | (intro z hz; rw [q_26.2.2.2.1 z hz]; exact i8 z hz) | (intro z hz; rw [q_26.2.2.2.2 z hz]; exact i9 z hz) | (exact TI_bad hT (by assumption) (by assumption) w1 (by assumption)) | (exact TI_go hT (by assumption) (by assumption) w1 (by assumption) q_37 rfl) | (exact TI_go hT (by assumption) (by assumption) w1 (by assumption) q_58 rfl) | (exact TI_begin hp.1 hp.2 GR_0) | (have h9 := enx_b (t := s.2 4) hp.1; omega) | (intro z hz; exact if_neg (by omega)) | grind [upI])
theorem vX3_table_7 (s : MS) (hp : 0 ≤ (s.1 6) ∧ (s.1 6) ≤ 800) (f5 : Int → Int) (f6 : Int → Int) (f7 : Int → Int) (f8 : Int → Int) (f9 : Int → Int) (k0 : Int) (k6 : Int) (k7 : Int) (k8 : Int) (k9 : Int) (k10 : Int) (k11 : Int) (k12 : Int) (k13 : Int) (k14 : Int) (k15 : Int) (k21 : Int) (hI : k0 = 0 ∧ (k6 = s.1 6 ∧ k14 = s.1 14 ∧ k15 = s.1 15) ∧ (0 ≤ k7 ∧ k7 ≤ s.1 6) ∧ (∀ z, z ≠ 4 → f5 z = s.2 5 z) ∧ (∀ z, z < 24 → f6 z = s.2 6 z) ∧ (∀ z, z < 96 → f7 z = s.2 7 z) ∧ (∀ z, z < 96 → f8 z = s.2 8 z) ∧ (∀ z, z < 80 → f9 z = s.2 9 z) ∧ TI (s.2 4) (s.1 6) (textP (s.2 4) (s.1 6) 801 (rep (fillC (s.2 6) 24 6 0) (s.2 7) (s.2 8) (s.2 9) 0) 0 0) (rep f6 f7 f8 f9 k21) (f5 4) k7 k8 k9 k10 k11 k12 k13) (c_2 : ¬ (bI (k12 = 0)) = 0) (c_7 : k8 = 0) (c_9 : k12 = 0) (o_10 : ((0 ≤ (4 : Int) ∧ (4 : Int) ≤ 4) ∧ (0 ≤ (0 : Int) ∧ (0 : Int) ≤ 4) ∧ (4 : Int) ≠ (0 : Int))) : k0 = (0) := by
  (try (have h2 := hI; obtain ⟨i0, ⟨i1, i2, i3⟩, i4, i5, i6, i7, i8, i9, hT⟩ := h2; subst i0 i1 i2 i3))
  (try simp only [bI_0, bI_n, Classical.not_not, Int.add_zero, Int.reduceAdd, upI_s] at *)
  (try have hb := TI_b hT (by assumption))
  (try have hg := hb.2.2 (by assumption))
  (try (have g0 := hg.1.1; have g2 := hg.1.2.2.1; have g3 := hg.1.2.2.2.1; have g4 := hg.1.2.2.2.2.1; have g5 := hg.1.2.2.2.2.2.1; have g6 := hg.1.2.2.2.2.2.2; change 2 ≤ f6 24 ∧ f6 24 ≤ 16 at g0; change f6 26 = _ ∧ f6 26 ≤ 10000 at g2; change 0 ≤ f6 27 ∧ f6 27 ≤ 12 at g3; change 0 ≤ f6 28 ∧ f6 28 ≤ 6 at g4; change 0 ≤ f6 29 ∧ f6 29 ≤ 20 at g5; change k21 = 0 → f6 27 = 0 at g6; clear hg))
  (try have gh2 : 0 ≤ f6 26 := by (rw [g2.1]; exact Int.le_of_lt (Int.pow_pos (by (change 0 < f6 24; omega)))))
  (try simp (disch := omega) only [i32_id] at *)
  (try have w1 := lnQ_eq (P' := fun p => if f5 4 = 0 then firstP (s.2 4) (s.1 6) (rep f6 f7 f8 f9 k21) p else lineP (s.2 4) (s.1 6) (rep f6 f7 f8 f9 k21) p) q_26.1 (fun p => if_neg c_12))
  (try have w1 := lnQ_eq (P' := fun p => if f5 4 = 0 then firstP (s.2 4) (s.1 6) (rep f6 f7 f8 f9 k21) p else lineP (s.2 4) (s.1 6) (rep f6 f7 f8 f9 k21) p) q_47.1 (fun p => if_pos c_12))
  (try have w2 := w1.1)
  (try have w3 := q_37.1)
  (try have w3 := q_58.1)
  (try unfold lex3)
  (try simp only [bI_0, bI_n, Classical.not_not] at *)
  (try simp (disch := omega) only [i32_id] at *)
  first | done | omega | ((repeat' (with_reducible apply And.intro)) <;> first | assumption | rfl | omega | (exact tab_ok (TI_end4 hT (by assumption) (by assumption) (by omega)) rfl (by assumption) i5 i6 i7 i8 i9) | (exact tab_err (hT.2 (by assumption)) (by assumption) i5 i6 i7 i8 i9) | (exact i5) | (exact i6) | (exact i7) | (exact i8) | (exact i9) | (intro z hz; rw [upI_n _ _ hz]; exact i5 z hz) | (intro z hz; rw [upI_n _ _ hz]) | (intro z hz; rw [q_47.2 z (by omega)]; exact i6 z hz) | (intro z hz; rw [q_26.2.1 z hz]; exact i6 z hz) | (intro z hz; rw [q_26.2.2.1 z hz]; exact i7 z hz) | (intro z hz; rw [q_26.2.2.2.1 z hz]; exact i8 z hz) | (intro z hz; rw [q_26.2.2.2.2 z hz]; exact i9 z hz) | (exact TI_bad hT (by assumption) (by assumption) w1 (by assumption)) | (exact TI_go hT (by assumption) (by assumption) w1 (by assumption) q_37 rfl) | (exact TI_go hT (by assumption) (by assumption) w1 (by assumption) q_58 rfl) | (exact TI_begin hp.1 hp.2 GR_0) | (have h9 := enx_b (t := s.2 4) hp.1; omega) | (intro z hz; exact if_neg (by omega)) | grind [upI])
theorem vX3_table_8 (s : MS) (hp : 0 ≤ (s.1 6) ∧ (s.1 6) ≤ 800) (f5 : Int → Int) (f6 : Int → Int) (f7 : Int → Int) (f8 : Int → Int) (f9 : Int → Int) (k0 : Int) (k6 : Int) (k7 : Int) (k8 : Int) (k9 : Int) (k10 : Int) (k11 : Int) (k12 : Int) (k13 : Int) (k14 : Int) (k15 : Int) (k21 : Int) (hI : k0 = 0 ∧ (k6 = s.1 6 ∧ k14 = s.1 14 ∧ k15 = s.1 15) ∧ (0 ≤ k7 ∧ k7 ≤ s.1 6) ∧ (∀ z, z ≠ 4 → f5 z = s.2 5 z) ∧ (∀ z, z < 24 → f6 z = s.2 6 z) ∧ (∀ z, z < 96 → f7 z = s.2 7 z) ∧ (∀ z, z < 96 → f8 z = s.2 8 z) ∧ (∀ z, z < 80 → f9 z = s.2 9 z) ∧ TI (s.2 4) (s.1 6) (textP (s.2 4) (s.1 6) 801 (rep (fillC (s.2 6) 24 6 0) (s.2 7) (s.2 8) (s.2 9) 0) 0 0) (rep f6 f7 f8 f9 k21) (f5 4) k7 k8 k9 k10 k11 k12 k13) (c_2 : ¬ (bI (k12 = 0)) = 0) (c_7 : k8 = 0) (c_9 : k12 = 0) (o_10 : ((0 ≤ (4 : Int) ∧ (4 : Int) ≤ 4) ∧ (0 ≤ (0 : Int) ∧ (0 : Int) ≤ 4) ∧ (4 : Int) ≠ (0 : Int))) : tabQ (textP (s.2 4) (s.1 6) 801 (rep (fillC (s.2 6) 24 6 0) (s.2 7) (s.2 8) (s.2 9) 0) 0 0) (s.2 5) (s.2 6) (s.2 7) (s.2 8) (s.2 9) (cpT 1 (4 : Int) (0 : Int) f5) (cpT 6 (4 : Int) (0 : Int) f6) (cpT 24 (4 : Int) (0 : Int) f7) (cpT 24 (4 : Int) (0 : Int) f8) (cpT 20 (4 : Int) (0 : Int) f9) ((cpT 1 (4 : Int) (0 : Int) f5) 0) (k12) (if k12 = 0 then -1 else k13) := by
  (try (have h2 := hI; obtain ⟨i0, ⟨i1, i2, i3⟩, i4, i5, i6, i7, i8, i9, hT⟩ := h2; subst i0 i1 i2 i3))
  (try simp only [bI_0, bI_n, Classical.not_not, Int.add_zero, Int.reduceAdd, upI_s] at *)
  (try have hb := TI_b hT (by assumption))
  (try have hg := hb.2.2 (by assumption))
  (try (have g0 := hg.1.1; have g2 := hg.1.2.2.1; have g3 := hg.1.2.2.2.1; have g4 := hg.1.2.2.2.2.1; have g5 := hg.1.2.2.2.2.2.1; have g6 := hg.1.2.2.2.2.2.2; change 2 ≤ f6 24 ∧ f6 24 ≤ 16 at g0; change f6 26 = _ ∧ f6 26 ≤ 10000 at g2; change 0 ≤ f6 27 ∧ f6 27 ≤ 12 at g3; change 0 ≤ f6 28 ∧ f6 28 ≤ 6 at g4; change 0 ≤ f6 29 ∧ f6 29 ≤ 20 at g5; change k21 = 0 → f6 27 = 0 at g6; clear hg))
  (try have gh2 : 0 ≤ f6 26 := by (rw [g2.1]; exact Int.le_of_lt (Int.pow_pos (by (change 0 < f6 24; omega)))))
  (try simp (disch := omega) only [i32_id] at *)
  (try have w1 := lnQ_eq (P' := fun p => if f5 4 = 0 then firstP (s.2 4) (s.1 6) (rep f6 f7 f8 f9 k21) p else lineP (s.2 4) (s.1 6) (rep f6 f7 f8 f9 k21) p) q_26.1 (fun p => if_neg c_12))
  (try have w1 := lnQ_eq (P' := fun p => if f5 4 = 0 then firstP (s.2 4) (s.1 6) (rep f6 f7 f8 f9 k21) p else lineP (s.2 4) (s.1 6) (rep f6 f7 f8 f9 k21) p) q_47.1 (fun p => if_pos c_12))
  (try have w2 := w1.1)
  (try have w3 := q_37.1)
  (try have w3 := q_58.1)
  (try unfold lex3)
  (try simp only [bI_0, bI_n, Classical.not_not] at *)
  (try simp (disch := omega) only [i32_id] at *)
  first | done | omega | ((repeat' (with_reducible apply And.intro)) <;> first | assumption | rfl | omega | (exact tab_ok (TI_end4 hT (by assumption) (by assumption) (by omega)) rfl (by assumption) i5 i6 i7 i8 i9) | (exact tab_err (hT.2 (by assumption)) (by assumption) i5 i6 i7 i8 i9) | (exact i5) | (exact i6) | (exact i7) | (exact i8) | (exact i9) | (intro z hz; rw [upI_n _ _ hz]; exact i5 z hz) | (intro z hz; rw [upI_n _ _ hz]) | (intro z hz; rw [q_47.2 z (by omega)]; exact i6 z hz) | (intro z hz; rw [q_26.2.1 z hz]; exact i6 z hz) | (intro z hz; rw [q_26.2.2.1 z hz]; exact i7 z hz) | (intro z hz; rw [q_26.2.2.2.1 z hz]; exact i8 z hz) | (intro z hz; rw [q_26.2.2.2.2 z hz]; exact i9 z hz) | (exact TI_bad hT (by assumption) (by assumption) w1 (by assumption)) | (exact TI_go hT (by assumption) (by assumption) w1 (by assumption) q_37 rfl) | (exact TI_go hT (by assumption) (by assumption) w1 (by assumption) q_58 rfl) | (exact TI_begin hp.1 hp.2 GR_0) | (have h9 := enx_b (t := s.2 4) hp.1; omega) | (intro z hz; exact if_neg (by omega)) | grind [upI])
theorem vX3_table_9 (s : MS) (hp : 0 ≤ (s.1 6) ∧ (s.1 6) ≤ 800) (f5 : Int → Int) (f6 : Int → Int) (f7 : Int → Int) (f8 : Int → Int) (f9 : Int → Int) (k0 : Int) (k6 : Int) (k7 : Int) (k8 : Int) (k9 : Int) (k10 : Int) (k11 : Int) (k12 : Int) (k13 : Int) (k14 : Int) (k15 : Int) (k21 : Int) (hI : k0 = 0 ∧ (k6 = s.1 6 ∧ k14 = s.1 14 ∧ k15 = s.1 15) ∧ (0 ≤ k7 ∧ k7 ≤ s.1 6) ∧ (∀ z, z ≠ 4 → f5 z = s.2 5 z) ∧ (∀ z, z < 24 → f6 z = s.2 6 z) ∧ (∀ z, z < 96 → f7 z = s.2 7 z) ∧ (∀ z, z < 96 → f8 z = s.2 8 z) ∧ (∀ z, z < 80 → f9 z = s.2 9 z) ∧ TI (s.2 4) (s.1 6) (textP (s.2 4) (s.1 6) 801 (rep (fillC (s.2 6) 24 6 0) (s.2 7) (s.2 8) (s.2 9) 0) 0 0) (rep f6 f7 f8 f9 k21) (f5 4) k7 k8 k9 k10 k11 k12 k13) (c_2 : ¬ (bI (k12 = 0)) = 0) (c_7 : k8 = 0) (c_9 : ¬ k12 = 0) : k0 = (0) := by
  (try (have h2 := hI; obtain ⟨i0, ⟨i1, i2, i3⟩, i4, i5, i6, i7, i8, i9, hT⟩ := h2; subst i0 i1 i2 i3))
  (try simp only [bI_0, bI_n, Classical.not_not, Int.add_zero, Int.reduceAdd, upI_s] at *)
  (try have hb := TI_b hT (by assumption))
  (try have hg := hb.2.2 (by assumption))
  (try (have g0 := hg.1.1; have g2 := hg.1.2.2.1; have g3 := hg.1.2.2.2.1; have g4 := hg.1.2.2.2.2.1; have g5 := hg.1.2.2.2.2.2.1; have g6 := hg.1.2.2.2.2.2.2; change 2 ≤ f6 24 ∧ f6 24 ≤ 16 at g0; change f6 26 = _ ∧ f6 26 ≤ 10000 at g2; change 0 ≤ f6 27 ∧ f6 27 ≤ 12 at g3; change 0 ≤ f6 28 ∧ f6 28 ≤ 6 at g4; change 0 ≤ f6 29 ∧ f6 29 ≤ 20 at g5; change k21 = 0 → f6 27 = 0 at g6; clear hg))
  (try have gh2 : 0 ≤ f6 26 := by (rw [g2.1]; exact Int.le_of_lt (Int.pow_pos (by (change 0 < f6 24; omega)))))
  (try simp (disch := omega) only [i32_id] at *)
  (try have w1 := lnQ_eq (P' := fun p => if f5 4 = 0 then firstP (s.2 4) (s.1 6) (rep f6 f7 f8 f9 k21) p else lineP (s.2 4) (s.1 6) (rep f6 f7 f8 f9 k21) p) q_26.1 (fun p => if_neg c_12))
  (try have w1 := lnQ_eq (P' := fun p => if f5 4 = 0 then firstP (s.2 4) (s.1 6) (rep f6 f7 f8 f9 k21) p else lineP (s.2 4) (s.1 6) (rep f6 f7 f8 f9 k21) p) q_47.1 (fun p => if_pos c_12))
  (try have w2 := w1.1)
  (try have w3 := q_37.1)
  (try have w3 := q_58.1)
  (try unfold lex3)
  (try simp only [bI_0, bI_n, Classical.not_not] at *)
  (try simp (disch := omega) only [i32_id] at *)
  first | done | omega | ((repeat' (with_reducible apply And.intro)) <;> first | assumption | rfl | omega | (exact tab_ok (TI_end4 hT (by assumption) (by assumption) (by omega)) rfl (by assumption) i5 i6 i7 i8 i9) | (exact tab_err (hT.2 (by assumption)) (by assumption) i5 i6 i7 i8 i9) | (exact i5) | (exact i6) | (exact i7) | (exact i8) | (exact i9) | (intro z hz; rw [upI_n _ _ hz]; exact i5 z hz) | (intro z hz; rw [upI_n _ _ hz]) | (intro z hz; rw [q_47.2 z (by omega)]; exact i6 z hz) | (intro z hz; rw [q_26.2.1 z hz]; exact i6 z hz) | (intro z hz; rw [q_26.2.2.1 z hz]; exact i7 z hz) | (intro z hz; rw [q_26.2.2.2.1 z hz]; exact i8 z hz) | (intro z hz; rw [q_26.2.2.2.2 z hz]; exact i9 z hz) | (exact TI_bad hT (by assumption) (by assumption) w1 (by assumption)) | (exact TI_go hT (by assumption) (by assumption) w1 (by assumption) q_37 rfl) | (exact TI_go hT (by assumption) (by assumption) w1 (by assumption) q_58 rfl) | (exact TI_begin hp.1 hp.2 GR_0) | (have h9 := enx_b (t := s.2 4) hp.1; omega) | (intro z hz; exact if_neg (by omega)) | grind [upI])
theorem vX3_table_10 (s : MS) (hp : 0 ≤ (s.1 6) ∧ (s.1 6) ≤ 800) (f5 : Int → Int) (f6 : Int → Int) (f7 : Int → Int) (f8 : Int → Int) (f9 : Int → Int) (k0 : Int) (k6 : Int) (k7 : Int) (k8 : Int) (k9 : Int) (k10 : Int) (k11 : Int) (k12 : Int) (k13 : Int) (k14 : Int) (k15 : Int) (k21 : Int) (hI : k0 = 0 ∧ (k6 = s.1 6 ∧ k14 = s.1 14 ∧ k15 = s.1 15) ∧ (0 ≤ k7 ∧ k7 ≤ s.1 6) ∧ (∀ z, z ≠ 4 → f5 z = s.2 5 z) ∧ (∀ z, z < 24 → f6 z = s.2 6 z) ∧ (∀ z, z < 96 → f7 z = s.2 7 z) ∧ (∀ z, z < 96 → f8 z = s.2 8 z) ∧ (∀ z, z < 80 → f9 z = s.2 9 z) ∧ TI (s.2 4) (s.1 6) (textP (s.2 4) (s.1 6) 801 (rep (fillC (s.2 6) 24 6 0) (s.2 7) (s.2 8) (s.2 9) 0) 0 0) (rep f6 f7 f8 f9 k21) (f5 4) k7 k8 k9 k10 k11 k12 k13) (c_2 : ¬ (bI (k12 = 0)) = 0) (c_7 : k8 = 0) (c_9 : ¬ k12 = 0) : tabQ (textP (s.2 4) (s.1 6) 801 (rep (fillC (s.2 6) 24 6 0) (s.2 7) (s.2 8) (s.2 9) 0) 0 0) (s.2 5) (s.2 6) (s.2 7) (s.2 8) (s.2 9) f5 f6 f7 f8 f9 (-4) (k12) (if k12 = 0 then -1 else k13) := by
  (try (have h2 := hI; obtain ⟨i0, ⟨i1, i2, i3⟩, i4, i5, i6, i7, i8, i9, hT⟩ := h2; subst i0 i1 i2 i3))
  (try simp only [bI_0, bI_n, Classical.not_not, Int.add_zero, Int.reduceAdd, upI_s] at *)
  (try have hb := TI_b hT (by assumption))
  (try have hg := hb.2.2 (by assumption))
  (try (have g0 := hg.1.1; have g2 := hg.1.2.2.1; have g3 := hg.1.2.2.2.1; have g4 := hg.1.2.2.2.2.1; have g5 := hg.1.2.2.2.2.2.1; have g6 := hg.1.2.2.2.2.2.2; change 2 ≤ f6 24 ∧ f6 24 ≤ 16 at g0; change f6 26 = _ ∧ f6 26 ≤ 10000 at g2; change 0 ≤ f6 27 ∧ f6 27 ≤ 12 at g3; change 0 ≤ f6 28 ∧ f6 28 ≤ 6 at g4; change 0 ≤ f6 29 ∧ f6 29 ≤ 20 at g5; change k21 = 0 → f6 27 = 0 at g6; clear hg))
  (try have gh2 : 0 ≤ f6 26 := by (rw [g2.1]; exact Int.le_of_lt (Int.pow_pos (by (change 0 < f6 24; omega)))))
  (try simp (disch := omega) only [i32_id] at *)
  (try have w1 := lnQ_eq (P' := fun p => if f5 4 = 0 then firstP (s.2 4) (s.1 6) (rep f6 f7 f8 f9 k21) p else lineP (s.2 4) (s.1 6) (rep f6 f7 f8 f9 k21) p) q_26.1 (fun p => if_neg c_12))
  (try have w1 := lnQ_eq (P' := fun p => if f5 4 = 0 then firstP (s.2 4) (s.1 6) (rep f6 f7 f8 f9 k21) p else lineP (s.2 4) (s.1 6) (rep f6 f7 f8 f9 k21) p) q_47.1 (fun p => if_pos c_12))
  (try have w2 := w1.1)
  (try have w3 := q_37.1)
  (try have w3 := q_58.1)
  (try unfold lex3)
  (try simp only [bI_0, bI_n, Classical.not_not] at *)
  (try simp (disch := omega) only [i32_id] at *)
  first | done | omega | ((repeat' (with_reducible apply And.intro)) <;> first | assumption | rfl | omega | (exact tab_ok (TI_end4 hT (by assumption) (by assumption) (by omega)) rfl (by assumption) i5 i6 i7 i8 i9) | (exact tab_err (hT.2 (by assumption)) (by assumption) i5 i6 i7 i8 i9) | (exact i5) | (exact i6) | (exact i7) | (exact i8) | (exact i9) | (intro z hz; rw [upI_n _ _ hz]; exact i5 z hz) | (intro z hz; rw [upI_n _ _ hz]) | (intro z hz; rw [q_47.2 z (by omega)]; exact i6 z hz) | (intro z hz; rw [q_26.2.1 z hz]; exact i6 z hz) | (intro z hz; rw [q_26.2.2.1 z hz]; exact i7 z hz) | (intro z hz; rw [q_26.2.2.2.1 z hz]; exact i8 z hz) | (intro z hz; rw [q_26.2.2.2.2 z hz]; exact i9 z hz) | (exact TI_bad hT (by assumption) (by assumption) w1 (by assumption)) | (exact TI_go hT (by assumption) (by assumption) w1 (by assumption) q_37 rfl) | (exact TI_go hT (by assumption) (by assumption) w1 (by assumption) q_58 rfl) | (exact TI_begin hp.1 hp.2 GR_0) | (have h9 := enx_b (t := s.2 4) hp.1; omega) | (intro z hz; exact if_neg (by omega)) | grind [upI])
theorem vX3_table_11 (s : MS) (hp : 0 ≤ (s.1 6) ∧ (s.1 6) ≤ 800) (f5 : Int → Int) (f6 : Int → Int) (f7 : Int → Int) (f8 : Int → Int) (f9 : Int → Int) (k0 : Int) (k6 : Int) (k7 : Int) (k8 : Int) (k9 : Int) (k10 : Int) (k11 : Int) (k12 : Int) (k13 : Int) (k14 : Int) (k15 : Int) (k21 : Int) (hI : k0 = 0 ∧ (k6 = s.1 6 ∧ k14 = s.1 14 ∧ k15 = s.1 15) ∧ (0 ≤ k7 ∧ k7 ≤ s.1 6) ∧ (∀ z, z ≠ 4 → f5 z = s.2 5 z) ∧ (∀ z, z < 24 → f6 z = s.2 6 z) ∧ (∀ z, z < 96 → f7 z = s.2 7 z) ∧ (∀ z, z < 96 → f8 z = s.2 8 z) ∧ (∀ z, z < 80 → f9 z = s.2 9 z) ∧ TI (s.2 4) (s.1 6) (textP (s.2 4) (s.1 6) 801 (rep (fillC (s.2 6) 24 6 0) (s.2 7) (s.2 8) (s.2 9) 0) 0 0) (rep f6 f7 f8 f9 k21) (f5 4) k7 k8 k9 k10 k11 k12 k13) (c_2 : ¬ (bI (k12 = 0)) = 0) (c_7 : ¬ k8 = 0) (c_12 : ¬ (f5 4) = 0) : (0 ≤ k7 ∧ k7 ≤ k6 ∧ k6 ≤ 800 ∧ k12 = 0 ∧ (0 ≤ f6 24 ∧ f6 24 ≤ 100) ∧ (k21 = 0 → f6 27 = 0) ∧ (0 ≤ f6 28 ∧ f6 28 ≤ 6) ∧ (0 ≤ f6 29 ∧ f6 29 ≤ 20) ∧ (0 ≤ f6 26 ∧ f6 26 ≤ 200000)) := by
  (try (have h2 := hI; obtain ⟨i0, ⟨i1, i2, i3⟩, i4, i5, i6, i7, i8, i9, hT⟩ := h2; subst i0 i1 i2 i3))
  (try simp only [bI_0, bI_n, Classical.not_not, Int.add_zero, Int.reduceAdd, upI_s] at *)
  (try have hb := TI_b hT (by assumption))
  (try have hg := hb.2.2 (by assumption))
  (try (have g0 := hg.1.1; have g2 := hg.1.2.2.1; have g3 := hg.1.2.2.2.1; have g4 := hg.1.2.2.2.2.1; have g5 := hg.1.2.2.2.2.2.1; have g6 := hg.1.2.2.2.2.2.2; change 2 ≤ f6 24 ∧ f6 24 ≤ 16 at g0; change f6 26 = _ ∧ f6 26 ≤ 10000 at g2; change 0 ≤ f6 27 ∧ f6 27 ≤ 12 at g3; change 0 ≤ f6 28 ∧ f6 28 ≤ 6 at g4; change 0 ≤ f6 29 ∧ f6 29 ≤ 20 at g5; change k21 = 0 → f6 27 = 0 at g6; clear hg))
  (try have gh2 : 0 ≤ f6 26 := by (rw [g2.1]; exact Int.le_of_lt (Int.pow_pos (by (change 0 < f6 24; omega)))))
  (try simp (disch := omega) only [i32_id] at *)
  (try have w1 := lnQ_eq (P' := fun p => if f5 4 = 0 then firstP (s.2 4) (s.1 6) (rep f6 f7 f8 f9 k21) p else lineP (s.2 4) (s.1 6) (rep f6 f7 f8 f9 k21) p) q_26.1 (fun p => if_neg c_12))
  (try have w1 := lnQ_eq (P' := fun p => if f5 4 = 0 then firstP (s.2 4) (s.1 6) (rep f6 f7 f8 f9 k21) p else lineP (s.2 4) (s.1 6) (rep f6 f7 f8 f9 k21) p) q_47.1 (fun p => if_pos c_12))
  (try have w2 := w1.1)
  (try have w3 := q_37.1)
  (try have w3 := q_58.1)
  (try unfold lex3)
  (try simp only [bI_0, bI_n, Classical.not_not] at *)
  (try simp (disch := omega) only [i32_id] at *)
  first | done | omega | ((repeat' (with_reducible apply And.intro)) <;> first | assumption | rfl | omega | (exact tab_ok (TI_end4 hT (by assumption) (by assumption) (by omega)) rfl (by assumption) i5 i6 i7 i8 i9) | (exact tab_err (hT.2 (by assumption)) (by assumption) i5 i6 i7 i8 i9) | (exact i5) | (exact i6) | (exact i7) | (exact i8) | (exact i9) | (intro z hz; rw [upI_n _ _ hz]; exact i5 z hz) | (intro z hz; rw [upI_n _ _ hz]) | (intro z hz; rw [q_47.2 z (by omega)]; exact i6 z hz) | (intro z hz; rw [q_26.2.1 z hz]; exact i6 z hz) | (intro z hz; rw [q_26.2.2.1 z hz]; exact i7 z hz) | (intro z hz; rw [q_26.2.2.2.1 z hz]; exact i8 z hz) | (intro z hz; rw [q_26.2.2.2.2 z hz]; exact i9 z hz) | (exact TI_bad hT (by assumption) (by assumption) w1 (by assumption)) | (exact TI_go hT (by assumption) (by assumption) w1 (by assumption) q_37 rfl) | (exact TI_go hT (by assumption) (by assumption) w1 (by assumption) q_58 rfl) | (exact TI_begin hp.1 hp.2 GR_0) | (have h9 := enx_b (t := s.2 4) hp.1; omega) | (intro z hz; exact if_neg (by omega)) | grind [upI])
theorem vX3_table_12 (s : MS) (hp : 0 ≤ (s.1 6) ∧ (s.1 6) ≤ 800) (f5 : Int → Int) (f6 : Int → Int) (f7 : Int → Int) (f8 : Int → Int) (f9 : Int → Int) (k0 : Int) (k6 : Int) (k7 : Int) (k8 : Int) (k9 : Int) (k10 : Int) (k11 : Int) (k12 : Int) (k13 : Int) (k14 : Int) (k15 : Int) (k21 : Int) (hI : k0 = 0 ∧ (k6 = s.1 6 ∧ k14 = s.1 14 ∧ k15 = s.1 15) ∧ (0 ≤ k7 ∧ k7 ≤ s.1 6) ∧ (∀ z, z ≠ 4 → f5 z = s.2 5 z) ∧ (∀ z, z < 24 → f6 z = s.2 6 z) ∧ (∀ z, z < 96 → f7 z = s.2 7 z) ∧ (∀ z, z < 96 → f8 z = s.2 8 z) ∧ (∀ z, z < 80 → f9 z = s.2 9 z) ∧ TI (s.2 4) (s.1 6) (textP (s.2 4) (s.1 6) 801 (rep (fillC (s.2 6) 24 6 0) (s.2 7) (s.2 8) (s.2 9) 0) 0 0) (rep f6 f7 f8 f9 k21) (f5 4) k7 k8 k9 k10 k11 k12 k13) (c_2 : ¬ (bI (k12 = 0)) = 0) (c_7 : ¬ k8 = 0) (c_12 : ¬ (f5 4) = 0) (o_13 : (0 ≤ k7 ∧ k7 ≤ k6 ∧ k6 ≤ 800 ∧ k12 = 0 ∧ (0 ≤ f6 24 ∧ f6 24 ≤ 100) ∧ (k21 = 0 → f6 27 = 0) ∧ (0 ≤ f6 28 ∧ f6 28 ≤ 6) ∧ (0 ≤ f6 29 ∧ f6 29 ≤ 20) ∧ (0 ≤ f6 26 ∧ f6 26 ≤ 200000))) (f_14 : Int → Int) (f_15 : Int → Int) (f_16 : Int → Int) (f_17 : Int → Int) (k_18 : Int) (k_19 : Int) (k_20 : Int) (k_21 : Int) (k_22 : Int) (k_23 : Int) (k_24 : Int) (k_25 : Int) (q_26 : (lnQ (s.2 4) k6 (lineP (s.2 4) k6 (rep f6 f7 f8 f9 k21)) k7 k8 k9 k10 k11 k_18 k_19 k_20 k_21 k_22 k_23 k_24 (rep f_14 f_15 f_16 f_17 k_25) ∧ (∀ z, z < 24 → f_14 z = f6 z) ∧ (∀ z, z < 96 → f_15 z = f7 z) ∧ (∀ z, z < 96 → f_16 z = f8 z) ∧ (∀ z, z < 80 → f_17 z = f9 z))) (c_28 : (bI (k_23 = 0)) = 0) : k0 = 0 ∧ (k6 = s.1 6 ∧ k14 = s.1 14 ∧ k15 = s.1 15) ∧ (0 ≤ k_18 ∧ k_18 ≤ s.1 6) ∧ (∀ z, z ≠ 4 → (upI f5 4 (i32 ((f5 4) + 1))) z = s.2 5 z) ∧ (∀ z, z < 24 → f_14 z = s.2 6 z) ∧ (∀ z, z < 96 → f_15 z = s.2 7 z) ∧ (∀ z, z < 96 → f_16 z = s.2 8 z) ∧ (∀ z, z < 80 → f_17 z = s.2 9 z) ∧ TI (s.2 4) (s.1 6) (textP (s.2 4) (s.1 6) 801 (rep (fillC (s.2 6) 24 6 0) (s.2 7) (s.2 8) (s.2 9) 0) 0 0) (rep f_14 f_15 f_16 f_17 k_25) ((upI f5 4 (i32 ((f5 4) + 1))) 4) k_18 k_19 k_20 k_21 k_22 k_23 k_24 := by
  (try (have h2 := hI; obtain ⟨i0, ⟨i1, i2, i3⟩, i4, i5, i6, i7, i8, i9, hT⟩ := h2; subst i0 i1 i2 i3))
  (try simp only [bI_0, bI_n, Classical.not_not, Int.add_zero, Int.reduceAdd, upI_s] at *)
  (try have hb := TI_b hT (by assumption))
  (try have hg := hb.2.2 (by assumption))
  (try (have g0 := hg.1.1; have g2 := hg.1.2.2.1; have g3 := hg.1.2.2.2.1; have g4 := hg.1.2.2.2.2.1; have g5 := hg.1.2.2.2.2.2.1; have g6 := hg.1.2.2.2.2.2.2; change 2 ≤ f6 24 ∧ f6 24 ≤ 16 at g0; change f6 26 = _ ∧ f6 26 ≤ 10000 at g2; change 0 ≤ f6 27 ∧ f6 27 ≤ 12 at g3; change 0 ≤ f6 28 ∧ f6 28 ≤ 6 at g4; change 0 ≤ f6 29 ∧ f6 29 ≤ 20 at g5; change k21 = 0 → f6 27 = 0 at g6; clear hg))
  (try have gh2 : 0 ≤ f6 26 := by (rw [g2.1]; exact Int.le_of_lt (Int.pow_pos (by (change 0 < f6 24; omega)))))
  (try simp (disch := omega) only [i32_id] at *)
  (try have w1 := lnQ_eq (P' := fun p => if f5 4 = 0 then firstP (s.2 4) (s.1 6) (rep f6 f7 f8 f9 k21) p else lineP (s.2 4) (s.1 6) (rep f6 f7 f8 f9 k21) p) q_26.1 (fun p => if_neg c_12))
  (try have w1 := lnQ_eq (P' := fun p => if f5 4 = 0 then firstP (s.2 4) (s.1 6) (rep f6 f7 f8 f9 k21) p else lineP (s.2 4) (s.1 6) (rep f6 f7 f8 f9 k21) p) q_47.1 (fun p => if_pos c_12))
  (try have w2 := w1.1)
  (try have w3 := q_37.1)
  (try have w3 := q_58.1)
  (try unfold lex3)
  (try simp only [bI_0, bI_n, Classical.not_not] at *)
  (try simp (disch := omega) only [i32_id] at *)
  first | done | omega | ((repeat' (with_reducible apply And.intro)) <;> first | assumption | rfl | omega | (exact tab_ok (TI_end4 hT (by assumption) (by assumption) (by omega)) rfl (by assumption) i5 i6 i7 i8 i9) | (exact tab_err (hT.2 (by assumption)) (by assumption) i5 i6 i7 i8 i9) | (exact i5) | (exact i6) | (exact i7) | (exact i8) | (exact i9) | (intro z hz; rw [upI_n _ _ hz]; exact i5 z hz) | (intro z hz; rw [upI_n _ _ hz]) | (intro z hz; rw [q_47.2 z (by omega)]; exact i6 z hz) | (intro z hz; rw [q_26.2.1 z hz]; exact i6 z hz) | (intro z hz; rw [q_26.2.2.1 z hz]; exact i7 z hz) | (intro z hz; rw [q_26.2.2.2.1 z hz]; exact i8 z hz) | (intro z hz; rw [q_26.2.2.2.2 z hz]; exact i9 z hz) | (exact TI_bad hT (by assumption) (by assumption) w1 (by assumption)) | (exact TI_go hT (by assumption) (by assumption) w1 (by assumption) q_37 rfl) | (exact TI_go hT (by assumption) (by assumption) w1 (by assumption) q_58 rfl) | (exact TI_begin hp.1 hp.2 GR_0) | (have h9 := enx_b (t := s.2 4) hp.1; omega) | (intro z hz; exact if_neg (by omega)) | grind [upI])
theorem vX3_table_13 (s : MS) (hp : 0 ≤ (s.1 6) ∧ (s.1 6) ≤ 800) (f5 : Int → Int) (f6 : Int → Int) (f7 : Int → Int) (f8 : Int → Int) (f9 : Int → Int) (k0 : Int) (k6 : Int) (k7 : Int) (k8 : Int) (k9 : Int) (k10 : Int) (k11 : Int) (k12 : Int) (k13 : Int) (k14 : Int) (k15 : Int) (k21 : Int) (hI : k0 = 0 ∧ (k6 = s.1 6 ∧ k14 = s.1 14 ∧ k15 = s.1 15) ∧ (0 ≤ k7 ∧ k7 ≤ s.1 6) ∧ (∀ z, z ≠ 4 → f5 z = s.2 5 z) ∧ (∀ z, z < 24 → f6 z = s.2 6 z) ∧ (∀ z, z < 96 → f7 z = s.2 7 z) ∧ (∀ z, z < 96 → f8 z = s.2 8 z) ∧ (∀ z, z < 80 → f9 z = s.2 9 z) ∧ TI (s.2 4) (s.1 6) (textP (s.2 4) (s.1 6) 801 (rep (fillC (s.2 6) 24 6 0) (s.2 7) (s.2 8) (s.2 9) 0) 0 0) (rep f6 f7 f8 f9 k21) (f5 4) k7 k8 k9 k10 k11 k12 k13) (c_2 : ¬ (bI (k12 = 0)) = 0) (c_7 : ¬ k8 = 0) (c_12 : ¬ (f5 4) = 0) (o_13 : (0 ≤ k7 ∧ k7 ≤ k6 ∧ k6 ≤ 800 ∧ k12 = 0 ∧ (0 ≤ f6 24 ∧ f6 24 ≤ 100) ∧ (k21 = 0 → f6 27 = 0) ∧ (0 ≤ f6 28 ∧ f6 28 ≤ 6) ∧ (0 ≤ f6 29 ∧ f6 29 ≤ 20) ∧ (0 ≤ f6 26 ∧ f6 26 ≤ 200000))) (f_14 : Int → Int) (f_15 : Int → Int) (f_16 : Int → Int) (f_17 : Int → Int) (k_18 : Int) (k_19 : Int) (k_20 : Int) (k_21 : Int) (k_22 : Int) (k_23 : Int) (k_24 : Int) (k_25 : Int) (q_26 : (lnQ (s.2 4) k6 (lineP (s.2 4) k6 (rep f6 f7 f8 f9 k21)) k7 k8 k9 k10 k11 k_18 k_19 k_20 k_21 k_22 k_23 k_24 (rep f_14 f_15 f_16 f_17 k_25) ∧ (∀ z, z < 24 → f_14 z = f6 z) ∧ (∀ z, z < 96 → f_15 z = f7 z) ∧ (∀ z, z < 96 → f_16 z = f8 z) ∧ (∀ z, z < 80 → f_17 z = f9 z))) (c_28 : (bI (k_23 = 0)) = 0) : lex3 0 0 (if k_23 = 0 then (801 - (upI f5 4 (i32 ((f5 4) + 1))) 4).toNat else 0) 0 0 (if k12 = 0 then (801 - f5 4).toNat else 0) := by
  (try (have h2 := hI; obtain ⟨i0, ⟨i1, i2, i3⟩, i4, i5, i6, i7, i8, i9, hT⟩ := h2; subst i0 i1 i2 i3))
  (try simp only [bI_0, bI_n, Classical.not_not, Int.add_zero, Int.reduceAdd, upI_s] at *)
  (try have hb := TI_b hT (by assumption))
  (try have hg := hb.2.2 (by assumption))
  (try (have g0 := hg.1.1; have g2 := hg.1.2.2.1; have g3 := hg.1.2.2.2.1; have g4 := hg.1.2.2.2.2.1; have g5 := hg.1.2.2.2.2.2.1; have g6 := hg.1.2.2.2.2.2.2; change 2 ≤ f6 24 ∧ f6 24 ≤ 16 at g0; change f6 26 = _ ∧ f6 26 ≤ 10000 at g2; change 0 ≤ f6 27 ∧ f6 27 ≤ 12 at g3; change 0 ≤ f6 28 ∧ f6 28 ≤ 6 at g4; change 0 ≤ f6 29 ∧ f6 29 ≤ 20 at g5; change k21 = 0 → f6 27 = 0 at g6; clear hg))
  (try have gh2 : 0 ≤ f6 26 := by (rw [g2.1]; exact Int.le_of_lt (Int.pow_pos (by (change 0 < f6 24; omega)))))
  (try simp (disch := omega) only [i32_id] at *)
  (try have w1 := lnQ_eq (P' := fun p => if f5 4 = 0 then firstP (s.2 4) (s.1 6) (rep f6 f7 f8 f9 k21) p else lineP (s.2 4) (s.1 6) (rep f6 f7 f8 f9 k21) p) q_26.1 (fun p => if_neg c_12))
  (try have w1 := lnQ_eq (P' := fun p => if f5 4 = 0 then firstP (s.2 4) (s.1 6) (rep f6 f7 f8 f9 k21) p else lineP (s.2 4) (s.1 6) (rep f6 f7 f8 f9 k21) p) q_47.1 (fun p => if_pos c_12))
  (try have w2 := w1.1)
  (try have w3 := q_37.1)
  (try have w3 := q_58.1)
  (try unfold lex3)
  (try simp only [bI_0, bI_n, Classical.not_not] at *)
  (try simp (disch := omega) only [i32_id] at *)
  first | done | omega | ((repeat' (with_reducible apply And.intro)) <;> first | assumption | rfl | omega | (exact tab_ok (TI_end4 hT (by assumption) (by assumption) (by omega)) rfl (by assumption) i5 i6 i7 i8 i9) | (exact tab_err (hT.2 (by assumption)) (by assumption) i5 i6 i7 i8 i9) | (exact i5) | (exact i6) | (exact i7) | (exact i8) | (exact i9) | (intro z hz; rw [upI_n _ _ hz]; exact i5 z hz) | (intro z hz; rw [upI_n _ _ hz]) | (intro z hz; rw [q_47.2 z (by omega)]; exact i6 z hz) | (intro z hz; rw [q_26.2.1 z hz]; exact i6 z hz) | (intro z hz; rw [q_26.2.2.1 z hz]; exact i7 z hz) | (intro z hz; rw [q_26.2.2.2.1 z hz]; exact i8 z hz) | (intro z hz; rw [q_26.2.2.2.2 z hz]; exact i9 z hz) | (exact TI_bad hT (by assumption) (by assumption) w1 (by assumption)) | (exact TI_go hT (by assumption) (by assumption) w1 (by assumption) q_37 rfl) | (exact TI_go hT (by assumption) (by assumption) w1 (by assumption) q_58 rfl) | (exact TI_begin hp.1 hp.2 GR_0) | (have h9 := enx_b (t := s.2 4) hp.1; omega) | (intro z hz; exact if_neg (by omega)) | grind [upI])
theorem vX3_table_14 (s : MS) (hp : 0 ≤ (s.1 6) ∧ (s.1 6) ≤ 800) (f5 : Int → Int) (f6 : Int → Int) (f7 : Int → Int) (f8 : Int → Int) (f9 : Int → Int) (k0 : Int) (k6 : Int) (k7 : Int) (k8 : Int) (k9 : Int) (k10 : Int) (k11 : Int) (k12 : Int) (k13 : Int) (k14 : Int) (k15 : Int) (k21 : Int) (hI : k0 = 0 ∧ (k6 = s.1 6 ∧ k14 = s.1 14 ∧ k15 = s.1 15) ∧ (0 ≤ k7 ∧ k7 ≤ s.1 6) ∧ (∀ z, z ≠ 4 → f5 z = s.2 5 z) ∧ (∀ z, z < 24 → f6 z = s.2 6 z) ∧ (∀ z, z < 96 → f7 z = s.2 7 z) ∧ (∀ z, z < 96 → f8 z = s.2 8 z) ∧ (∀ z, z < 80 → f9 z = s.2 9 z) ∧ TI (s.2 4) (s.1 6) (textP (s.2 4) (s.1 6) 801 (rep (fillC (s.2 6) 24 6 0) (s.2 7) (s.2 8) (s.2 9) 0) 0 0) (rep f6 f7 f8 f9 k21) (f5 4) k7 k8 k9 k10 k11 k12 k13) (c_2 : ¬ (bI (k12 = 0)) = 0) (c_7 : ¬ k8 = 0) (c_12 : ¬ (f5 4) = 0) (o_13 : (0 ≤ k7 ∧ k7 ≤ k6 ∧ k6 ≤ 800 ∧ k12 = 0 ∧ (0 ≤ f6 24 ∧ f6 24 ≤ 100) ∧ (k21 = 0 → f6 27 = 0) ∧ (0 ≤ f6 28 ∧ f6 28 ≤ 6) ∧ (0 ≤ f6 29 ∧ f6 29 ≤ 20) ∧ (0 ≤ f6 26 ∧ f6 26 ≤ 200000))) (f_14 : Int → Int) (f_15 : Int → Int) (f_16 : Int → Int) (f_17 : Int → Int) (k_18 : Int) (k_19 : Int) (k_20 : Int) (k_21 : Int) (k_22 : Int) (k_23 : Int) (k_24 : Int) (k_25 : Int) (q_26 : (lnQ (s.2 4) k6 (lineP (s.2 4) k6 (rep f6 f7 f8 f9 k21)) k7 k8 k9 k10 k11 k_18 k_19 k_20 k_21 k_22 k_23 k_24 (rep f_14 f_15 f_16 f_17 k_25) ∧ (∀ z, z < 24 → f_14 z = f6 z) ∧ (∀ z, z < 96 → f_15 z = f7 z) ∧ (∀ z, z < 96 → f_16 z = f8 z) ∧ (∀ z, z < 80 → f_17 z = f9 z))) (c_28 : ¬ (bI (k_23 = 0)) = 0) : (0 ≤ k_18 ∧ k_18 ≤ k6 ∧ k6 ≤ 800) := by
  (try (have h2 := hI; obtain ⟨i0, ⟨i1, i2, i3⟩, i4, i5, i6, i7, i8, i9, hT⟩ := h2; subst i0 i1 i2 i3))
  (try simp only [bI_0, bI_n, Classical.not_not, Int.add_zero, Int.reduceAdd, upI_s] at *)
  (try have hb := TI_b hT (by assumption))
  (try have hg := hb.2.2 (by assumption))
  (try (have g0 := hg.1.1; have g2 := hg.1.2.2.1; have g3 := hg.1.2.2.2.1; have g4 := hg.1.2.2.2.2.1; have g5 := hg.1.2.2.2.2.2.1; have g6 := hg.1.2.2.2.2.2.2; change 2 ≤ f6 24 ∧ f6 24 ≤ 16 at g0; change f6 26 = _ ∧ f6 26 ≤ 10000 at g2; change 0 ≤ f6 27 ∧ f6 27 ≤ 12 at g3; change 0 ≤ f6 28 ∧ f6 28 ≤ 6 at g4; change 0 ≤ f6 29 ∧ f6 29 ≤ 20 at g5; change k21 = 0 → f6 27 = 0 at g6; clear hg))
  (try have gh2 : 0 ≤ f6 26 := by (rw [g2.1]; exact Int.le_of_lt (Int.pow_pos (by (change 0 < f6 24; omega)))))
  (try simp (disch := omega) only [i32_id] at *)
  (try have w1 := lnQ_eq (P' := fun p => if f5 4 = 0 then firstP (s.2 4) (s.1 6) (rep f6 f7 f8 f9 k21) p else lineP (s.2 4) (s.1 6) (rep f6 f7 f8 f9 k21) p) q_26.1 (fun p => if_neg c_12))
  (try have w1 := lnQ_eq (P' := fun p => if f5 4 = 0 then firstP (s.2 4) (s.1 6) (rep f6 f7 f8 f9 k21) p else lineP (s.2 4) (s.1 6) (rep f6 f7 f8 f9 k21) p) q_47.1 (fun p => if_pos c_12))
  (try have w2 := w1.1)
  (try have w3 := q_37.1)
  (try have w3 := q_58.1)
  (try unfold lex3)
  (try simp only [bI_0, bI_n, Classical.not_not] at *)
  (try simp (disch := omega) only [i32_id] at *)
  first | done | omega | ((repeat' (with_reducible apply And.intro)) <;> first | assumption | rfl | omega | (exact tab_ok (TI_end4 hT (by assumption) (by assumption) (by omega)) rfl (by assumption) i5 i6 i7 i8 i9) | (exact tab_err (hT.2 (by assumption)) (by assumption) i5 i6 i7 i8 i9) | (exact i5) | (exact i6) | (exact i7) | (exact i8) | (exact i9) | (intro z hz; rw [upI_n _ _ hz]; exact i5 z hz) | (intro z hz; rw [upI_n _ _ hz]) | (intro z hz; rw [q_47.2 z (by omega)]; exact i6 z hz) | (intro z hz; rw [q_26.2.1 z hz]; exact i6 z hz) | (intro z hz; rw [q_26.2.2.1 z hz]; exact i7 z hz) | (intro z hz; rw [q_26.2.2.2.1 z hz]; exact i8 z hz) | (intro z hz; rw [q_26.2.2.2.2 z hz]; exact i9 z hz) | (exact TI_bad hT (by assumption) (by assumption) w1 (by assumption)) | (exact TI_go hT (by assumption) (by assumption) w1 (by assumption) q_37 rfl) | (exact TI_go hT (by assumption) (by assumption) w1 (by assumption) q_58 rfl) | (exact TI_begin hp.1 hp.2 GR_0) | (have h9 := enx_b (t := s.2 4) hp.1; omega) | (intro z hz; exact if_neg (by omega)) | grind [upI])
theorem vX3_table_15 (s : MS) (hp : 0 ≤ (s.1 6) ∧ (s.1 6) ≤ 800) (f5 : Int → Int) (f6 : Int → Int) (f7 : Int → Int) (f8 : Int → Int) (f9 : Int → Int) (k0 : Int) (k6 : Int) (k7 : Int) (k8 : Int) (k9 : Int) (k10 : Int) (k11 : Int) (k12 : Int) (k13 : Int) (k14 : Int) (k15 : Int) (k21 : Int) (hI : k0 = 0 ∧ (k6 = s.1 6 ∧ k14 = s.1 14 ∧ k15 = s.1 15) ∧ (0 ≤ k7 ∧ k7 ≤ s.1 6) ∧ (∀ z, z ≠ 4 → f5 z = s.2 5 z) ∧ (∀ z, z < 24 → f6 z = s.2 6 z) ∧ (∀ z, z < 96 → f7 z = s.2 7 z) ∧ (∀ z, z < 96 → f8 z = s.2 8 z) ∧ (∀ z, z < 80 → f9 z = s.2 9 z) ∧ TI (s.2 4) (s.1 6) (textP (s.2 4) (s.1 6) 801 (rep (fillC (s.2 6) 24 6 0) (s.2 7) (s.2 8) (s.2 9) 0) 0 0) (rep f6 f7 f8 f9 k21) (f5 4) k7 k8 k9 k10 k11 k12 k13) (c_2 : ¬ (bI (k12 = 0)) = 0) (c_7 : ¬ k8 = 0) (c_12 : ¬ (f5 4) = 0) (o_13 : (0 ≤ k7 ∧ k7 ≤ k6 ∧ k6 ≤ 800 ∧ k12 = 0 ∧ (0 ≤ f6 24 ∧ f6 24 ≤ 100) ∧ (k21 = 0 → f6 27 = 0) ∧ (0 ≤ f6 28 ∧ f6 28 ≤ 6) ∧ (0 ≤ f6 29 ∧ f6 29 ≤ 20) ∧ (0 ≤ f6 26 ∧ f6 26 ≤ 200000))) (f_14 : Int → Int) (f_15 : Int → Int) (f_16 : Int → Int) (f_17 : Int → Int) (k_18 : Int) (k_19 : Int) (k_20 : Int) (k_21 : Int) (k_22 : Int) (k_23 : Int) (k_24 : Int) (k_25 : Int) (q_26 : (lnQ (s.2 4) k6 (lineP (s.2 4) k6 (rep f6 f7 f8 f9 k21)) k7 k8 k9 k10 k11 k_18 k_19 k_20 k_21 k_22 k_23 k_24 (rep f_14 f_15 f_16 f_17 k_25) ∧ (∀ z, z < 24 → f_14 z = f6 z) ∧ (∀ z, z < 96 → f_15 z = f7 z) ∧ (∀ z, z < 96 → f_16 z = f8 z) ∧ (∀ z, z < 80 → f_17 z = f9 z))) (c_28 : ¬ (bI (k_23 = 0)) = 0) (o_29 : (0 ≤ k_18 ∧ k_18 ≤ k6 ∧ k6 ≤ 800)) (k_30 : Int) (k_31 : Int) (k_32 : Int) (k_33 : Int) (k_34 : Int) (k_35 : Int) (k_36 : Int) (q_37 : (stopQ (s.2 4) k6 k_18 k_19 k_20 k_21 k_22 k_23 k_24 k_30 k_31 k_32 k_33 k_34 k_35 k_36)) : k0 = 0 ∧ (k6 = s.1 6 ∧ k14 = s.1 14 ∧ k15 = s.1 15) ∧ (0 ≤ k_30 ∧ k_30 ≤ s.1 6) ∧ (∀ z, z ≠ 4 → (upI f5 4 (i32 ((f5 4) + 1))) z = s.2 5 z) ∧ (∀ z, z < 24 → f_14 z = s.2 6 z) ∧ (∀ z, z < 96 → f_15 z = s.2 7 z) ∧ (∀ z, z < 96 → f_16 z = s.2 8 z) ∧ (∀ z, z < 80 → f_17 z = s.2 9 z) ∧ TI (s.2 4) (s.1 6) (textP (s.2 4) (s.1 6) 801 (rep (fillC (s.2 6) 24 6 0) (s.2 7) (s.2 8) (s.2 9) 0) 0 0) (rep f_14 f_15 f_16 f_17 k_25) ((upI f5 4 (i32 ((f5 4) + 1))) 4) k_30 k_31 k_32 k_33 k_34 k_35 k_36 := by
  (try (have h2 := hI; obtain ⟨i0, ⟨i1, i2, i3⟩, i4, i5, i6, i7, i8, i9, hT⟩ := h2; subst i0 i1 i2 i3))
  (try simp only [bI_0, bI_n, Classical.not_not, Int.add_zero, Int.reduceAdd, upI_s] at *)
  (try have hb := TI_b hT (by assumption))
  (try have hg := hb.2.2 (by assumption))
  (try (have g0 := hg.1.1; have g2 := hg.1.2.2.1; have g3 := hg.1.2.2.2.1; have g4 := hg.1.2.2.2.2.1; have g5 := hg.1.2.2.2.2.2.1; have g6 := hg.1.2.2.2.2.2.2; change 2 ≤ f6 24 ∧ f6 24 ≤ 16 at g0; change f6 26 = _ ∧ f6 26 ≤ 10000 at g2; change 0 ≤ f6 27 ∧ f6 27 ≤ 12 at g3; change 0 ≤ f6 28 ∧ f6 28 ≤ 6 at g4; change 0 ≤ f6 29 ∧ f6 29 ≤ 20 at g5; change k21 = 0 → f6 27 = 0 at g6; clear hg))
  (try have gh2 : 0 ≤ f6 26 := by (rw [g2.1]; exact Int.le_of_lt (Int.pow_pos (by (change 0 < f6 24; omega)))))
  (try simp (disch := omega) only [i32_id] at *)
  (try have w1 := lnQ_eq (P' := fun p => if f5 4 = 0 then firstP (s.2 4) (s.1 6) (rep f6 f7 f8 f9 k21) p else lineP (s.2 4) (s.1 6) (rep f6 f7 f8 f9 k21) p) q_26.1 (fun p => if_neg c_12))
  (try have w1 := lnQ_eq (P' := fun p => if f5 4 = 0 then firstP (s.2 4) (s.1 6) (rep f6 f7 f8 f9 k21) p else lineP (s.2 4) (s.1 6) (rep f6 f7 f8 f9 k21) p) q_47.1 (fun p => if_pos c_12))
  (try have w2 := w1.1)
  (try have w3 := q_37.1)
  (try have w3 := q_58.1)
  (try unfold lex3)
  (try simp only [bI_0, bI_n, Classical.not_not] at *)
  (try simp (disch := omega) only [i32_id] at *)
  first | done | omega | ((repeat' (with_reducible apply And.intro)) <;> first | assumption | rfl | omega | (exact tab_ok (TI_end4 hT (by assumption) (by assumption) (by omega)) rfl (by assumption) i5 i6 i7 i8 i9) | (exact tab_err (hT.2 (by assumption)) (by assumption) i5 i6 i7 i8 i9) | (exact i5) | (exact i6) | (exact i7) | (exact i8) | (exact i9) | (intro z hz; rw [upI_n _ _ hz]; exact i5 z hz) | (intro z hz; rw [upI_n _ _ hz]) | (intro z hz; rw [q_47.2 z (by omega)]; exact i6 z hz) | (intro z hz; rw [q_26.2.1 z hz]; exact i6 z hz) | (intro z hz; rw [q_26.2.2.1 z hz]; exact i7 z hz) | (intro z hz; rw [q_26.2.2.2.1 z hz]; exact i8 z hz) | (intro z hz; rw [q_26.2.2.2.2 z hz]; exact i9 z hz) | (exact TI_bad hT (by assumption) (by assumption) w1 (by assumption)) | (exact TI_go hT (by assumption) (by assumption) w1 (by assumption) q_37 rfl) | (exact TI_go hT (by assumption) (by assumption) w1 (by assumption) q_58 rfl) | (exact TI_begin hp.1 hp.2 GR_0) | (have h9 := enx_b (t := s.2 4) hp.1; omega) | (intro z hz; exact if_neg (by omega)) | grind [upI])
theorem vX3_table_16 (s : MS) (hp : 0 ≤ (s.1 6) ∧ (s.1 6) ≤ 800) (f5 : Int → Int) (f6 : Int → Int) (f7 : Int → Int) (f8 : Int → Int) (f9 : Int → Int) (k0 : Int) (k6 : Int) (k7 : Int) (k8 : Int) (k9 : Int) (k10 : Int) (k11 : Int) (k12 : Int) (k13 : Int) (k14 : Int) (k15 : Int) (k21 : Int) (hI : k0 = 0 ∧ (k6 = s.1 6 ∧ k14 = s.1 14 ∧ k15 = s.1 15) ∧ (0 ≤ k7 ∧ k7 ≤ s.1 6) ∧ (∀ z, z ≠ 4 → f5 z = s.2 5 z) ∧ (∀ z, z < 24 → f6 z = s.2 6 z) ∧ (∀ z, z < 96 → f7 z = s.2 7 z) ∧ (∀ z, z < 96 → f8 z = s.2 8 z) ∧ (∀ z, z < 80 → f9 z = s.2 9 z) ∧ TI (s.2 4) (s.1 6) (textP (s.2 4) (s.1 6) 801 (rep (fillC (s.2 6) 24 6 0) (s.2 7) (s.2 8) (s.2 9) 0) 0 0) (rep f6 f7 f8 f9 k21) (f5 4) k7 k8 k9 k10 k11 k12 k13) (c_2 : ¬ (bI (k12 = 0)) = 0) (c_7 : ¬ k8 = 0) (c_12 : ¬ (f5 4) = 0) (o_13 : (0 ≤ k7 ∧ k7 ≤ k6 ∧ k6 ≤ 800 ∧ k12 = 0 ∧ (0 ≤ f6 24 ∧ f6 24 ≤ 100) ∧ (k21 = 0 → f6 27 = 0) ∧ (0 ≤ f6 28 ∧ f6 28 ≤ 6) ∧ (0 ≤ f6 29 ∧ f6 29 ≤ 20) ∧ (0 ≤ f6 26 ∧ f6 26 ≤ 200000))) (f_14 : Int → Int) (f_15 : Int → Int) (f_16 : Int → Int) (f_17 : Int → Int) (k_18 : Int) (k_19 : Int) (k_20 : Int) (k_21 : Int) (k_22 : Int) (k_23 : Int) (k_24 : Int) (k_25 : Int) (q_26 : (lnQ (s.2 4) k6 (lineP (s.2 4) k6 (rep f6 f7 f8 f9 k21)) k7 k8 k9 k10 k11 k_18 k_19 k_20 k_21 k_22 k_23 k_24 (rep f_14 f_15 f_16 f_17 k_25) ∧ (∀ z, z < 24 → f_14 z = f6 z) ∧ (∀ z, z < 96 → f_15 z = f7 z) ∧ (∀ z, z < 96 → f_16 z = f8 z) ∧ (∀ z, z < 80 → f_17 z = f9 z))) (c_28 : ¬ (bI (k_23 = 0)) = 0) (o_29 : (0 ≤ k_18 ∧ k_18 ≤ k6 ∧ k6 ≤ 800)) (k_30 : Int) (k_31 : Int) (k_32 : Int) (k_33 : Int) (k_34 : Int) (k_35 : Int) (k_36 : Int) (q_37 : (stopQ (s.2 4) k6 k_18 k_19 k_20 k_21 k_22 k_23 k_24 k_30 k_31 k_32 k_33 k_34 k_35 k_36)) : lex3 0 0 (if k_35 = 0 then (801 - (upI f5 4 (i32 ((f5 4) + 1))) 4).toNat else 0) 0 0 (if k12 = 0 then (801 - f5 4).toNat else 0) := by
  (try (have h2 := hI; obtain ⟨i0, ⟨i1, i2, i3⟩, i4, i5, i6, i7, i8, i9, hT⟩ := h2; subst i0 i1 i2 i3))
  (try simp only [bI_0, bI_n, Classical.not_not, Int.add_zero, Int.reduceAdd, upI_s] at *)
  (try have hb := TI_b hT (by assumption))
  (try have hg := hb.2.2 (by assumption))
  (try (have g0 := hg.1.1; have g2 := hg.1.2.2.1; have g3 := hg.1.2.2.2.1; have g4 := hg.1.2.2.2.2.1; have g5 := hg.1.2.2.2.2.2.1; have g6 := hg.1.2.2.2.2.2.2; change 2 ≤ f6 24 ∧ f6 24 ≤ 16 at g0; change f6 26 = _ ∧ f6 26 ≤ 10000 at g2; change 0 ≤ f6 27 ∧ f6 27 ≤ 12 at g3; change 0 ≤ f6 28 ∧ f6 28 ≤ 6 at g4; change 0 ≤ f6 29 ∧ f6 29 ≤ 20 at g5; change k21 = 0 → f6 27 = 0 at g6; clear hg))
  (try have gh2 : 0 ≤ f6 26 := by (rw [g2.1]; exact Int.le_of_lt (Int.pow_pos (by (change 0 < f6 24; omega)))))
  (try simp (disch := omega) only [i32_id] at *)
  (try have w1 := lnQ_eq (P' := fun p => if f5 4 = 0 then firstP (s.2 4) (s.1 6) (rep f6 f7 f8 f9 k21) p else lineP (s.2 4) (s.1 6) (rep f6 f7 f8 f9 k21) p) q_26.1 (fun p => if_neg c_12))
  (try have w1 := lnQ_eq (P' := fun p => if f5 4 = 0 then firstP (s.2 4) (s.1 6) (rep f6 f7 f8 f9 k21) p else lineP (s.2 4) (s.1 6) (rep f6 f7 f8 f9 k21) p) q_47.1 (fun p => if_pos c_12))
  (try have w2 := w1.1)
  (try have w3 := q_37.1)
  (try have w3 := q_58.1)
  (try unfold lex3)
  (try simp only [bI_0, bI_n, Classical.not_not] at *)
  (try simp (disch := omega) only [i32_id] at *)
  first | done | omega | ((repeat' (with_reducible apply And.intro)) <;> first | assumption | rfl | omega | (exact tab_ok (TI_end4 hT (by assumption) (by assumption) (by omega)) rfl (by assumption) i5 i6 i7 i8 i9) | (exact tab_err (hT.2 (by assumption)) (by assumption) i5 i6 i7 i8 i9) | (exact i5) | (exact i6) | (exact i7) | (exact i8) | (exact i9) | (intro z hz; rw [upI_n _ _ hz]; exact i5 z hz) | (intro z hz; rw [upI_n _ _ hz]) | (intro z hz; rw [q_47.2 z (by omega)]; exact i6 z hz) | (intro z hz; rw [q_26.2.1 z hz]; exact i6 z hz) | (intro z hz; rw [q_26.2.2.1 z hz]; exact i7 z hz) | (intro z hz; rw [q_26.2.2.2.1 z hz]; exact i8 z hz) | (intro z hz; rw [q_26.2.2.2.2 z hz]; exact i9 z hz) | (exact TI_bad hT (by assumption) (by assumption) w1 (by assumption)) | (exact TI_go hT (by assumption) (by assumption) w1 (by assumption) q_37 rfl) | (exact TI_go hT (by assumption) (by assumption) w1 (by assumption) q_58 rfl) | (exact TI_begin hp.1 hp.2 GR_0) | (have h9 := enx_b (t := s.2 4) hp.1; omega) | (intro z hz; exact if_neg (by omega)) | grind [upI])
theorem vX3_table_17 (s : MS) (hp : 0 ≤ (s.1 6) ∧ (s.1 6) ≤ 800) (f5 : Int → Int) (f6 : Int → Int) (f7 : Int → Int) (f8 : Int → Int) (f9 : Int → Int) (k0 : Int) (k6 : Int) (k7 : Int) (k8 : Int) (k9 : Int) (k10 : Int) (k11 : Int) (k12 : Int) (k13 : Int) (k14 : Int) (k15 : Int) (k21 : Int) (hI : k0 = 0 ∧ (k6 = s.1 6 ∧ k14 = s.1 14 ∧ k15 = s.1 15) ∧ (0 ≤ k7 ∧ k7 ≤ s.1 6) ∧ (∀ z, z ≠ 4 → f5 z = s.2 5 z) ∧ (∀ z, z < 24 → f6 z = s.2 6 z) ∧ (∀ z, z < 96 → f7 z = s.2 7 z) ∧ (∀ z, z < 96 → f8 z = s.2 8 z) ∧ (∀ z, z < 80 → f9 z = s.2 9 z) ∧ TI (s.2 4) (s.1 6) (textP (s.2 4) (s.1 6) 801 (rep (fillC (s.2 6) 24 6 0) (s.2 7) (s.2 8) (s.2 9) 0) 0 0) (rep f6 f7 f8 f9 k21) (f5 4) k7 k8 k9 k10 k11 k12 k13) (c_2 : ¬ (bI (k12 = 0)) = 0) (c_7 : ¬ k8 = 0) (c_12 : (f5 4) = 0) : (0 ≤ k7 ∧ k7 ≤ k6 ∧ k6 ≤ 800 ∧ k12 = 0) := by
  (try (have h2 := hI; obtain ⟨i0, ⟨i1, i2, i3⟩, i4, i5, i6, i7, i8, i9, hT⟩ := h2; subst i0 i1 i2 i3))
  (try simp only [bI_0, bI_n, Classical.not_not, Int.add_zero, Int.reduceAdd, upI_s] at *)
  (try have hb := TI_b hT (by assumption))
  (try have hg := hb.2.2 (by assumption))
  (try (have g0 := hg.1.1; have g2 := hg.1.2.2.1; have g3 := hg.1.2.2.2.1; have g4 := hg.1.2.2.2.2.1; have g5 := hg.1.2.2.2.2.2.1; have g6 := hg.1.2.2.2.2.2.2; change 2 ≤ f6 24 ∧ f6 24 ≤ 16 at g0; change f6 26 = _ ∧ f6 26 ≤ 10000 at g2; change 0 ≤ f6 27 ∧ f6 27 ≤ 12 at g3; change 0 ≤ f6 28 ∧ f6 28 ≤ 6 at g4; change 0 ≤ f6 29 ∧ f6 29 ≤ 20 at g5; change k21 = 0 → f6 27 = 0 at g6; clear hg))
  (try have gh2 : 0 ≤ f6 26 := by (rw [g2.1]; exact Int.le_of_lt (Int.pow_pos (by (change 0 < f6 24; omega)))))
  (try simp (disch := omega) only [i32_id] at *)
  (try have w1 := lnQ_eq (P' := fun p => if f5 4 = 0 then firstP (s.2 4) (s.1 6) (rep f6 f7 f8 f9 k21) p else lineP (s.2 4) (s.1 6) (rep f6 f7 f8 f9 k21) p) q_26.1 (fun p => if_neg c_12))
  (try have w1 := lnQ_eq (P' := fun p => if f5 4 = 0 then firstP (s.2 4) (s.1 6) (rep f6 f7 f8 f9 k21) p else lineP (s.2 4) (s.1 6) (rep f6 f7 f8 f9 k21) p) q_47.1 (fun p => if_pos c_12))
  (try have w2 := w1.1)
  (try have w3 := q_37.1)
  (try have w3 := q_58.1)
  (try unfold lex3)
  (try simp only [bI_0, bI_n, Classical.not_not] at *)
  (try simp (disch := omega) only [i32_id] at *)
  first | done | omega | ((repeat' (with_reducible apply And.intro)) <;> first | assumption | rfl | omega | (exact tab_ok (TI_end4 hT (by assumption) (by assumption) (by omega)) rfl (by assumption) i5 i6 i7 i8 i9) | (exact tab_err (hT.2 (by assumption)) (by assumption) i5 i6 i7 i8 i9) | (exact i5) | (exact i6) | (exact i7) | (exact i8) | (exact i9) | (intro z hz; rw [upI_n _ _ hz]; exact i5 z hz) | (intro z hz; rw [upI_n _ _ hz]) | (intro z hz; rw [q_47.2 z (by omega)]; exact i6 z hz) | (intro z hz; rw [q_26.2.1 z hz]; exact i6 z hz) | (intro z hz; rw [q_26.2.2.1 z hz]; exact i7 z hz) | (intro z hz; rw [q_26.2.2.2.1 z hz]; exact i8 z hz) | (intro z hz; rw [q_26.2.2.2.2 z hz]; exact i9 z hz) | (exact TI_bad hT (by assumption) (by assumption) w1 (by assumption)) | (exact TI_go hT (by assumption) (by assumption) w1 (by assumption) q_37 rfl) | (exact TI_go hT (by assumption) (by assumption) w1 (by assumption) q_58 rfl) | (exact TI_begin hp.1 hp.2 GR_0) | (have h9 := enx_b (t := s.2 4) hp.1; omega) | (intro z hz; exact if_neg (by omega)) | grind [upI])
theorem vX3_table_18 (s : MS) (hp : 0 ≤ (s.1 6) ∧ (s.1 6) ≤ 800) (f5 : Int → Int) (f6 : Int → Int) (f7 : Int → Int) (f8 : Int → Int) (f9 : Int → Int) (k0 : Int) (k6 : Int) (k7 : Int) (k8 : Int) (k9 : Int) (k10 : Int) (k11 : Int) (k12 : Int) (k13 : Int) (k14 : Int) (k15 : Int) (k21 : Int) (hI : k0 = 0 ∧ (k6 = s.1 6 ∧ k14 = s.1 14 ∧ k15 = s.1 15) ∧ (0 ≤ k7 ∧ k7 ≤ s.1 6) ∧ (∀ z, z ≠ 4 → f5 z = s.2 5 z) ∧ (∀ z, z < 24 → f6 z = s.2 6 z) ∧ (∀ z, z < 96 → f7 z = s.2 7 z) ∧ (∀ z, z < 96 → f8 z = s.2 8 z) ∧ (∀ z, z < 80 → f9 z = s.2 9 z) ∧ TI (s.2 4) (s.1 6) (textP (s.2 4) (s.1 6) 801 (rep (fillC (s.2 6) 24 6 0) (s.2 7) (s.2 8) (s.2 9) 0) 0 0) (rep f6 f7 f8 f9 k21) (f5 4) k7 k8 k9 k10 k11 k12 k13) (c_2 : ¬ (bI (k12 = 0)) = 0) (c_7 : ¬ k8 = 0) (c_12 : (f5 4) = 0) (o_38 : (0 ≤ k7 ∧ k7 ≤ k6 ∧ k6 ≤ 800 ∧ k12 = 0)) (f_39 : Int → Int) (k_40 : Int) (k_41 : Int) (k_42 : Int) (k_43 : Int) (k_44 : Int) (k_45 : Int) (k_46 : Int) (q_47 : (lnQ (s.2 4) k6 (firstP (s.2 4) k6 (rep f6 f7 f8 f9 k21)) k7 k8 k9 k10 k11 k_40 k_41 k_42 k_43 k_44 k_45 k_46 (rep f_39 f7 f8 f9 k21) ∧ (∀ z, z < 24 ∨ 26 < z → f_39 z = f6 z))) (c_49 : (bI (k_45 = 0)) = 0) : k0 = 0 ∧ (k6 = s.1 6 ∧ k14 = s.1 14 ∧ k15 = s.1 15) ∧ (0 ≤ k_40 ∧ k_40 ≤ s.1 6) ∧ (∀ z, z ≠ 4 → (upI f5 4 (i32 ((f5 4) + 1))) z = s.2 5 z) ∧ (∀ z, z < 24 → f_39 z = s.2 6 z) ∧ (∀ z, z < 96 → f7 z = s.2 7 z) ∧ (∀ z, z < 96 → f8 z = s.2 8 z) ∧ (∀ z, z < 80 → f9 z = s.2 9 z) ∧ TI (s.2 4) (s.1 6) (textP (s.2 4) (s.1 6) 801 (rep (fillC (s.2 6) 24 6 0) (s.2 7) (s.2 8) (s.2 9) 0) 0 0) (rep f_39 f7 f8 f9 k21) ((upI f5 4 (i32 ((f5 4) + 1))) 4) k_40 k_41 k_42 k_43 k_44 k_45 k_46 := by
  (try (have h2 := hI; obtain ⟨i0, ⟨i1, i2, i3⟩, i4, i5, i6, i7, i8, i9, hT⟩ := h2; subst i0 i1 i2 i3))
  (try simp only [bI_0, bI_n, Classical.not_not, Int.add_zero, Int.reduceAdd, upI_s] at *)
  (try have hb := TI_b hT (by assumption))
  (try have hg := hb.2.2 (by assumption))
  (try (have g0 := hg.1.1; have g2 := hg.1.2.2.1; have g3 := hg.1.2.2.2.1; have g4 := hg.1.2.2.2.2.1; have g5 := hg.1.2.2.2.2.2.1; have g6 := hg.1.2.2.2.2.2.2; change 2 ≤ f6 24 ∧ f6 24 ≤ 16 at g0; change f6 26 = _ ∧ f6 26 ≤ 10000 at g2; change 0 ≤ f6 27 ∧ f6 27 ≤ 12 at g3; change 0 ≤ f6 28 ∧ f6 28 ≤ 6 at g4; change 0 ≤ f6 29 ∧ f6 29 ≤ 20 at g5; change k21 = 0 → f6 27 = 0 at g6; clear hg))
  (try have gh2 : 0 ≤ f6 26 := by (rw [g2.1]; exact Int.le_of_lt (Int.pow_pos (by (change 0 < f6 24; omega)))))
  (try simp (disch := omega) only [i32_id] at *)
  (try have w1 := lnQ_eq (P' := fun p => if f5 4 = 0 then firstP (s.2 4) (s.1 6) (rep f6 f7 f8 f9 k21) p else lineP (s.2 4) (s.1 6) (rep f6 f7 f8 f9 k21) p) q_26.1 (fun p => if_neg c_12))
  (try have w1 := lnQ_eq (P' := fun p => if f5 4 = 0 then firstP (s.2 4) (s.1 6) (rep f6 f7 f8 f9 k21) p else lineP (s.2 4) (s.1 6) (rep f6 f7 f8 f9 k21) p) q_47.1 (fun p => if_pos c_12))
  (try have w2 := w1.1)
  (try have w3 := q_37.1)
  (try have w3 := q_58.1)
  (try unfold lex3)
  (try simp only [bI_0, bI_n, Classical.not_not] at *)
  (try simp (disch := omega) only [i32_id] at *)
  first | done | omega | ((repeat' (with_reducible apply And.intro)) <;> first | assumption | rfl | omega | (exact tab_ok (TI_end4 hT (by assumption) (by assumption) (by omega)) rfl (by assumption) i5 i6 i7 i8 i9) | (exact tab_err (hT.2 (by assumption)) (by assumption) i5 i6 i7 i8 i9) | (exact i5) | (exact i6) | (exact i7) | (exact i8) | (exact i9) | (intro z hz; rw [upI_n _ _ hz]; exact i5 z hz) | (intro z hz; rw [upI_n _ _ hz]) | (intro z hz; rw [q_47.2 z (by omega)]; exact i6 z hz) | (intro z hz; rw [q_26.2.1 z hz]; exact i6 z hz) | (intro z hz; rw [q_26.2.2.1 z hz]; exact i7 z hz) | (intro z hz; rw [q_26.2.2.2.1 z hz]; exact i8 z hz) | (intro z hz; rw [q_26.2.2.2.2 z hz]; exact i9 z hz) | (exact TI_bad hT (by assumption) (by assumption) w1 (by assumption)) | (exact TI_go hT (by assumption) (by assumption) w1 (by assumption) q_37 rfl) | (exact TI_go hT (by assumption) (by assumption) w1 (by assumption) q_58 rfl) | (exact TI_begin hp.1 hp.2 GR_0) | (have h9 := enx_b (t := s.2 4) hp.1; omega) | (intro z hz; exact if_neg (by omega)) | grind [upI])
theorem vX3_table_19 (s : MS) (hp : 0 ≤ (s.1 6) ∧ (s.1 6) ≤ 800) (f5 : Int → Int) (f6 : Int → Int) (f7 : Int → Int) (f8 : Int → Int) (f9 : Int → Int) (k0 : Int) (k6 : Int) (k7 : Int) (k8 : Int) (k9 : Int) (k10 : Int) (k11 : Int) (k12 : Int) (k13 : Int) (k14 : Int) (k15 : Int) (k21 : Int) (hI : k0 = 0 ∧ (k6 = s.1 6 ∧ k14 = s.1 14 ∧ k15 = s.1 15) ∧ (0 ≤ k7 ∧ k7 ≤ s.1 6) ∧ (∀ z, z ≠ 4 → f5 z = s.2 5 z) ∧ (∀ z, z < 24 → f6 z = s.2 6 z) ∧ (∀ z, z < 96 → f7 z = s.2 7 z) ∧ (∀ z, z < 96 → f8 z = s.2 8 z) ∧ (∀ z, z < 80 → f9 z = s.2 9 z) ∧ TI (s.2 4) (s.1 6) (textP (s.2 4) (s.1 6) 801 (rep (fillC (s.2 6) 24 6 0) (s.2 7) (s.2 8) (s.2 9) 0) 0 0) (rep f6 f7 f8 f9 k21) (f5 4) k7 k8 k9 k10 k11 k12 k13) (c_2 : ¬ (bI (k12 = 0)) = 0) (c_7 : ¬ k8 = 0) (c_12 : (f5 4) = 0) (o_38 : (0 ≤ k7 ∧ k7 ≤ k6 ∧ k6 ≤ 800 ∧ k12 = 0)) (f_39 : Int → Int) (k_40 : Int) (k_41 : Int) (k_42 : Int) (k_43 : Int) (k_44 : Int) (k_45 : Int) (k_46 : Int) (q_47 : (lnQ (s.2 4) k6 (firstP (s.2 4) k6 (rep f6 f7 f8 f9 k21)) k7 k8 k9 k10 k11 k_40 k_41 k_42 k_43 k_44 k_45 k_46 (rep f_39 f7 f8 f9 k21) ∧ (∀ z, z < 24 ∨ 26 < z → f_39 z = f6 z))) (c_49 : (bI (k_45 = 0)) = 0) : lex3 0 0 (if k_45 = 0 then (801 - (upI f5 4 (i32 ((f5 4) + 1))) 4).toNat else 0) 0 0 (if k12 = 0 then (801 - f5 4).toNat else 0) := by
  (try (have h2 := hI; obtain ⟨i0, ⟨i1, i2, i3⟩, i4, i5, i6, i7, i8, i9, hT⟩ := h2; subst i0 i1 i2 i3))
  (try simp only [bI_0, bI_n, Classical.not_not, Int.add_zero, Int.reduceAdd, upI_s] at *)
  (try have hb := TI_b hT (by assumption))
  (try have hg := hb.2.2 (by assumption))
  (try (have g0 := hg.1.1; have g2 := hg.1.2.2.1; have g3 := hg.1.2.2.2.1; have g4 := hg.1.2.2.2.2.1; have g5 := hg.1.2.2.2.2.2.1; have g6 := hg.1.2.2.2.2.2.2; change 2 ≤ f6 24 ∧ f6 24 ≤ 16 at g0; change f6 26 = _ ∧ f6 26 ≤ 10000 at g2; change 0 ≤ f6 27 ∧ f6 27 ≤ 12 at g3; change 0 ≤ f6 28 ∧ f6 28 ≤ 6 at g4; change 0 ≤ f6 29 ∧ f6 29 ≤ 20 at g5; change k21 = 0 → f6 27 = 0 at g6; clear hg))
  (try have gh2 : 0 ≤ f6 26 := by (rw [g2.1]; exact Int.le_of_lt (Int.pow_pos (by (change 0 < f6 24; omega)))))
  (try simp (disch := omega) only [i32_id] at *)
  (try have w1 := lnQ_eq (P' := fun p => if f5 4 = 0 then firstP (s.2 4) (s.1 6) (rep f6 f7 f8 f9 k21) p else lineP (s.2 4) (s.1 6) (rep f6 f7 f8 f9 k21) p) q_26.1 (fun p => if_neg c_12))
  (try have w1 := lnQ_eq (P' := fun p => if f5 4 = 0 then firstP (s.2 4) (s.1 6) (rep f6 f7 f8 f9 k21) p else lineP (s.2 4) (s.1 6) (rep f6 f7 f8 f9 k21) p) q_47.1 (fun p => if_pos c_12))
  (try have w2 := w1.1)
  (try have w3 := q_37.1)
  (try have w3 := q_58.1)
  (try unfold lex3)
  (try simp only [bI_0, bI_n, Classical.not_not] at *)
  (try simp (disch := omega) only [i32_id] at *)
  first | done | omega | ((repeat' (with_reducible apply And.intro)) <;> first | assumption | rfl | omega | (exact tab_ok (TI_end4 hT (by assumption) (by assumption) (by omega)) rfl (by assumption) i5 i6 i7 i8 i9) | (exact tab_err (hT.2 (by assumption)) (by assumption) i5 i6 i7 i8 i9) | (exact i5) | (exact i6) | (exact i7) | (exact i8) | (exact i9) | (intro z hz; rw [upI_n _ _ hz]; exact i5 z hz) | (intro z hz; rw [upI_n _ _ hz]) | (intro z hz; rw [q_47.2 z (by omega)]; exact i6 z hz) | (intro z hz; rw [q_26.2.1 z hz]; exact i6 z hz) | (intro z hz; rw [q_26.2.2.1 z hz]; exact i7 z hz) | (intro z hz; rw [q_26.2.2.2.1 z hz]; exact i8 z hz) | (intro z hz; rw [q_26.2.2.2.2 z hz]; exact i9 z hz) | (exact TI_bad hT (by assumption) (by assumption) w1 (by assumption)) | (exact TI_go hT (by assumption) (by assumption) w1 (by assumption) q_37 rfl) | (exact TI_go hT (by assumption) (by assumption) w1 (by assumption) q_58 rfl) | (exact TI_begin hp.1 hp.2 GR_0) | (have h9 := enx_b (t := s.2 4) hp.1; omega) | (intro z hz; exact if_neg (by omega)) | grind [upI])
theorem vX3_table_20 (s : MS) (hp : 0 ≤ (s.1 6) ∧ (s.1 6) ≤ 800) (f5 : Int → Int) (f6 : Int → Int) (f7 : Int → Int) (f8 : Int → Int) (f9 : Int → Int) (k0 : Int) (k6 : Int) (k7 : Int) (k8 : Int) (k9 : Int) (k10 : Int) (k11 : Int) (k12 : Int) (k13 : Int) (k14 : Int) (k15 : Int) (k21 : Int) (hI : k0 = 0 ∧ (k6 = s.1 6 ∧ k14 = s.1 14 ∧ k15 = s.1 15) ∧ (0 ≤ k7 ∧ k7 ≤ s.1 6) ∧ (∀ z, z ≠ 4 → f5 z = s.2 5 z) ∧ (∀ z, z < 24 → f6 z = s.2 6 z) ∧ (∀ z, z < 96 → f7 z = s.2 7 z) ∧ (∀ z, z < 96 → f8 z = s.2 8 z) ∧ (∀ z, z < 80 → f9 z = s.2 9 z) ∧ TI (s.2 4) (s.1 6) (textP (s.2 4) (s.1 6) 801 (rep (fillC (s.2 6) 24 6 0) (s.2 7) (s.2 8) (s.2 9) 0) 0 0) (rep f6 f7 f8 f9 k21) (f5 4) k7 k8 k9 k10 k11 k12 k13) (c_2 : ¬ (bI (k12 = 0)) = 0) (c_7 : ¬ k8 = 0) (c_12 : (f5 4) = 0) (o_38 : (0 ≤ k7 ∧ k7 ≤ k6 ∧ k6 ≤ 800 ∧ k12 = 0)) (f_39 : Int → Int) (k_40 : Int) (k_41 : Int) (k_42 : Int) (k_43 : Int) (k_44 : Int) (k_45 : Int) (k_46 : Int) (q_47 : (lnQ (s.2 4) k6 (firstP (s.2 4) k6 (rep f6 f7 f8 f9 k21)) k7 k8 k9 k10 k11 k_40 k_41 k_42 k_43 k_44 k_45 k_46 (rep f_39 f7 f8 f9 k21) ∧ (∀ z, z < 24 ∨ 26 < z → f_39 z = f6 z))) (c_49 : ¬ (bI (k_45 = 0)) = 0) : (0 ≤ k_40 ∧ k_40 ≤ k6 ∧ k6 ≤ 800) := by
  (try (have h2 := hI; obtain ⟨i0, ⟨i1, i2, i3⟩, i4, i5, i6, i7, i8, i9, hT⟩ := h2; subst i0 i1 i2 i3))
  (try simp only [bI_0, bI_n, Classical.not_not, Int.add_zero, Int.reduceAdd, upI_s] at *)
  (try have hb := TI_b hT (by assumption))
  (try have hg := hb.2.2 (by assumption))
  (try (have g0 := hg.1.1; have g2 := hg.1.2.2.1; have g3 := hg.1.2.2.2.1; have g4 := hg.1.2.2.2.2.1; have g5 := hg.1.2.2.2.2.2.1; have g6 := hg.1.2.2.2.2.2.2; change 2 ≤ f6 24 ∧ f6 24 ≤ 16 at g0; change f6 26 = _ ∧ f6 26 ≤ 10000 at g2; change 0 ≤ f6 27 ∧ f6 27 ≤ 12 at g3; change 0 ≤ f6 28 ∧ f6 28 ≤ 6 at g4; change 0 ≤ f6 29 ∧ f6 29 ≤ 20 at g5; change k21 = 0 → f6 27 = 0 at g6; clear hg))
  (try have gh2 : 0 ≤ f6 26 := by (rw [g2.1]; exact Int.le_of_lt (Int.pow_pos (by (change 0 < f6 24; omega)))))
  (try simp (disch := omega) only [i32_id] at *)
  (try have w1 := lnQ_eq (P' := fun p => if f5 4 = 0 then firstP (s.2 4) (s.1 6) (rep f6 f7 f8 f9 k21) p else lineP (s.2 4) (s.1 6) (rep f6 f7 f8 f9 k21) p) q_26.1 (fun p => if_neg c_12))
  (try have w1 := lnQ_eq (P' := fun p => if f5 4 = 0 then firstP (s.2 4) (s.1 6) (rep f6 f7 f8 f9 k21) p else lineP (s.2 4) (s.1 6) (rep f6 f7 f8 f9 k21) p) q_47.1 (fun p => if_pos c_12))
  (try have w2 := w1.1)
  (try have w3 := q_37.1)
  (try have w3 := q_58.1)
  (try unfold lex3)
  (try simp only [bI_0, bI_n, Classical.not_not] at *)
  (try simp (disch := omega) only [i32_id] at *)
  first | done | omega | ((repeat' (with_reducible apply And.intro)) <;> first | assumption | rfl | omega | (exact tab_ok (TI_end4 hT (by assumption) (by assumption) (by omega)) rfl (by assumption) i5 i6 i7 i8 i9) | (exact tab_err (hT.2 (by assumption)) (by assumption) i5 i6 i7 i8 i9) | (exact i5) | (exact i6) | (exact i7) | (exact i8) | (exact i9) | (intro z hz; rw [upI_n _ _ hz]; exact i5 z hz) | (intro z hz; rw [upI_n _ _ hz]) | (intro z hz; rw [q_47.2 z (by omega)]; exact i6 z hz) | (intro z hz; rw [q_26.2.1 z hz]; exact i6 z hz) | (intro z hz; rw [q_26.2.2.1 z hz]; exact i7 z hz) | (intro z hz; rw [q_26.2.2.2.1 z hz]; exact i8 z hz) | (intro z hz; rw [q_26.2.2.2.2 z hz]; exact i9 z hz) | (exact TI_bad hT (by assumption) (by assumption) w1 (by assumption)) | (exact TI_go hT (by assumption) (by assumption) w1 (by assumption) q_37 rfl) | (exact TI_go hT (by assumption) (by assumption) w1 (by assumption) q_58 rfl) | (exact TI_begin hp.1 hp.2 GR_0) | (have h9 := enx_b (t := s.2 4) hp.1; omega) | (intro z hz; exact if_neg (by omega)) | grind [upI])
theorem vX3_table_21 (s : MS) (hp : 0 ≤ (s.1 6) ∧ (s.1 6) ≤ 800) (f5 : Int → Int) (f6 : Int → Int) (f7 : Int → Int) (f8 : Int → Int) (f9 : Int → Int) (k0 : Int) (k6 : Int) (k7 : Int) (k8 : Int) (k9 : Int) (k10 : Int) (k11 : Int) (k12 : Int) (k13 : Int) (k14 : Int) (k15 : Int) (k21 : Int) (hI : k0 = 0 ∧ (k6 = s.1 6 ∧ k14 = s.1 14 ∧ k15 = s.1 15) ∧ (0 ≤ k7 ∧ k7 ≤ s.1 6) ∧ (∀ z, z ≠ 4 → f5 z = s.2 5 z) ∧ (∀ z, z < 24 → f6 z = s.2 6 z) ∧ (∀ z, z < 96 → f7 z = s.2 7 z) ∧ (∀ z, z < 96 → f8 z = s.2 8 z) ∧ (∀ z, z < 80 → f9 z = s.2 9 z) ∧ TI (s.2 4) (s.1 6) (textP (s.2 4) (s.1 6) 801 (rep (fillC (s.2 6) 24 6 0) (s.2 7) (s.2 8) (s.2 9) 0) 0 0) (rep f6 f7 f8 f9 k21) (f5 4) k7 k8 k9 k10 k11 k12 k13) (c_2 : ¬ (bI (k12 = 0)) = 0) (c_7 : ¬ k8 = 0) (c_12 : (f5 4) = 0) (o_38 : (0 ≤ k7 ∧ k7 ≤ k6 ∧ k6 ≤ 800 ∧ k12 = 0)) (f_39 : Int → Int) (k_40 : Int) (k_41 : Int) (k_42 : Int) (k_43 : Int) (k_44 : Int) (k_45 : Int) (k_46 : Int) (q_47 : (lnQ (s.2 4) k6 (firstP (s.2 4) k6 (rep f6 f7 f8 f9 k21)) k7 k8 k9 k10 k11 k_40 k_41 k_42 k_43 k_44 k_45 k_46 (rep f_39 f7 f8 f9 k21) ∧ (∀ z, z < 24 ∨ 26 < z → f_39 z = f6 z))) (c_49 : ¬ (bI (k_45 = 0)) = 0) (o_50 : (0 ≤ k_40 ∧ k_40 ≤ k6 ∧ k6 ≤ 800)) (k_51 : Int) (k_52 : Int) (k_53 : Int) (k_54 : Int) (k_55 : Int) (k_56 : Int) (k_57 : Int) (q_58 : (stopQ (s.2 4) k6 k_40 k_41 k_42 k_43 k_44 k_45 k_46 k_51 k_52 k_53 k_54 k_55 k_56 k_57)) : k0 = 0 ∧ (k6 = s.1 6 ∧ k14 = s.1 14 ∧ k15 = s.1 15) ∧ (0 ≤ k_51 ∧ k_51 ≤ s.1 6) ∧ (∀ z, z ≠ 4 → (upI f5 4 (i32 ((f5 4) + 1))) z = s.2 5 z) ∧ (∀ z, z < 24 → f_39 z = s.2 6 z) ∧ (∀ z, z < 96 → f7 z = s.2 7 z) ∧ (∀ z, z < 96 → f8 z = s.2 8 z) ∧ (∀ z, z < 80 → f9 z = s.2 9 z) ∧ TI (s.2 4) (s.1 6) (textP (s.2 4) (s.1 6) 801 (rep (fillC (s.2 6) 24 6 0) (s.2 7) (s.2 8) (s.2 9) 0) 0 0) (rep f_39 f7 f8 f9 k21) ((upI f5 4 (i32 ((f5 4) + 1))) 4) k_51 k_52 k_53 k_54 k_55 k_56 k_57 := by
  (try (have h2 := hI; obtain ⟨i0, ⟨i1, i2, i3⟩, i4, i5, i6, i7, i8, i9, hT⟩ := h2; subst i0 i1 i2 i3))
  (try simp only [bI_0, bI_n, Classical.not_not, Int.add_zero, Int.reduceAdd, upI_s] at *)
  (try have hb := TI_b hT (by assumption))
  (try have hg := hb.2.2 (by assumption))
  (try (have g0 := hg.1.1; have g2 := hg.1.2.2.1; have g3 := hg.1.2.2.2.1; have g4 := hg.1.2.2.2.2.1; have g5 := hg.1.2.2.2.2.2.1; have g6 := hg.1.2.2.2.2.2.2; change 2 ≤ f6 24 ∧ f6 24 ≤ 16 at g0; change f6 26 = _ ∧ f6 26 ≤ 10000 at g2; change 0 ≤ f6 27 ∧ f6 27 ≤ 12 at g3; change 0 ≤ f6 28 ∧ f6 28 ≤ 6 at g4; change 0 ≤ f6 29 ∧ f6 29 ≤ 20 at g5; change k21 = 0 → f6 27 = 0 at g6; clear hg))
  (try have gh2 : 0 ≤ f6 26 := by (rw [g2.1]; exact Int.le_of_lt (Int.pow_pos (by (change 0 < f6 24; omega)))))
  (try simp (disch := omega) only [i32_id] at *)
  (try have w1 := lnQ_eq (P' := fun p => if f5 4 = 0 then firstP (s.2 4) (s.1 6) (rep f6 f7 f8 f9 k21) p else lineP (s.2 4) (s.1 6) (rep f6 f7 f8 f9 k21) p) q_26.1 (fun p => if_neg c_12))
  (try have w1 := lnQ_eq (P' := fun p => if f5 4 = 0 then firstP (s.2 4) (s.1 6) (rep f6 f7 f8 f9 k21) p else lineP (s.2 4) (s.1 6) (rep f6 f7 f8 f9 k21) p) q_47.1 (fun p => if_pos c_12))
  (try have w2 := w1.1)
  (try have w3 := q_37.1)
  (try have w3 := q_58.1)
  (try unfold lex3)
  (try simp only [bI_0, bI_n, Classical.not_not] at *)
  (try simp (disch := omega) only [i32_id] at *)
  first | done | omega | ((repeat' (with_reducible apply And.intro)) <;> first | assumption | rfl | omega | (exact tab_ok (TI_end4 hT (by assumption) (by assumption) (by omega)) rfl (by assumption) i5 i6 i7 i8 i9) | (exact tab_err (hT.2 (by assumption)) (by assumption) i5 i6 i7 i8 i9) | (exact i5) | (exact i6) | (exact i7) | (exact i8) | (exact i9) | (intro z hz; rw [upI_n _ _ hz]; exact i5 z hz) | (intro z hz; rw [upI_n _ _ hz]) | (intro z hz; rw [q_47.2 z (by omega)]; exact i6 z hz) | (intro z hz; rw [q_26.2.1 z hz]; exact i6 z hz) | (intro z hz; rw [q_26.2.2.1 z hz]; exact i7 z hz) | (intro z hz; rw [q_26.2.2.2.1 z hz]; exact i8 z hz) | (intro z hz; rw [q_26.2.2.2.2 z hz]; exact i9 z hz) | (exact TI_bad hT (by assumption) (by assumption) w1 (by assumption)) | (exact TI_go hT (by assumption) (by assumption) w1 (by assumption) q_37 rfl) | (exact TI_go hT (by assumption) (by assumption) w1 (by assumption) q_58 rfl) | (exact TI_begin hp.1 hp.2 GR_0) | (have h9 := enx_b (t := s.2 4) hp.1; omega) | (intro z hz; exact if_neg (by omega)) | grind [upI])
theorem vX3_table_22 (s : MS) (hp : 0 ≤ (s.1 6) ∧ (s.1 6) ≤ 800) (f5 : Int → Int) (f6 : Int → Int) (f7 : Int → Int) (f8 : Int → Int) (f9 : Int → Int) (k0 : Int) (k6 : Int) (k7 : Int) (k8 : Int) (k9 : Int) (k10 : Int) (k11 : Int) (k12 : Int) (k13 : Int) (k14 : Int) (k15 : Int) (k21 : Int) (hI : k0 = 0 ∧ (k6 = s.1 6 ∧ k14 = s.1 14 ∧ k15 = s.1 15) ∧ (0 ≤ k7 ∧ k7 ≤ s.1 6) ∧ (∀ z, z ≠ 4 → f5 z = s.2 5 z) ∧ (∀ z, z < 24 → f6 z = s.2 6 z) ∧ (∀ z, z < 96 → f7 z = s.2 7 z) ∧ (∀ z, z < 96 → f8 z = s.2 8 z) ∧ (∀ z, z < 80 → f9 z = s.2 9 z) ∧ TI (s.2 4) (s.1 6) (textP (s.2 4) (s.1 6) 801 (rep (fillC (s.2 6) 24 6 0) (s.2 7) (s.2 8) (s.2 9) 0) 0 0) (rep f6 f7 f8 f9 k21) (f5 4) k7 k8 k9 k10 k11 k12 k13) (c_2 : ¬ (bI (k12 = 0)) = 0) (c_7 : ¬ k8 = 0) (c_12 : (f5 4) = 0) (o_38 : (0 ≤ k7 ∧ k7 ≤ k6 ∧ k6 ≤ 800 ∧ k12 = 0)) (f_39 : Int → Int) (k_40 : Int) (k_41 : Int) (k_42 : Int) (k_43 : Int) (k_44 : Int) (k_45 : Int) (k_46 : Int) (q_47 : (lnQ (s.2 4) k6 (firstP (s.2 4) k6 (rep f6 f7 f8 f9 k21)) k7 k8 k9 k10 k11 k_40 k_41 k_42 k_43 k_44 k_45 k_46 (rep f_39 f7 f8 f9 k21) ∧ (∀ z, z < 24 ∨ 26 < z → f_39 z = f6 z))) (c_49 : ¬ (bI (k_45 = 0)) = 0) (o_50 : (0 ≤ k_40 ∧ k_40 ≤ k6 ∧ k6 ≤ 800)) (k_51 : Int) (k_52 : Int) (k_53 : Int) (k_54 : Int) (k_55 : Int) (k_56 : Int) (k_57 : Int) (q_58 : (stopQ (s.2 4) k6 k_40 k_41 k_42 k_43 k_44 k_45 k_46 k_51 k_52 k_53 k_54 k_55 k_56 k_57)) : lex3 0 0 (if k_56 = 0 then (801 - (upI f5 4 (i32 ((f5 4) + 1))) 4).toNat else 0) 0 0 (if k12 = 0 then (801 - f5 4).toNat else 0) := by
  (try (have h2 := hI; obtain ⟨i0, ⟨i1, i2, i3⟩, i4, i5, i6, i7, i8, i9, hT⟩ := h2; subst i0 i1 i2 i3))
  (try simp only [bI_0, bI_n, Classical.not_not, Int.add_zero, Int.reduceAdd, upI_s] at *)
  (try have hb := TI_b hT (by assumption))
  (try have hg := hb.2.2 (by assumption))
  (try (have g0 := hg.1.1; have g2 := hg.1.2.2.1; have g3 := hg.1.2.2.2.1; have g4 := hg.1.2.2.2.2.1; have g5 := hg.1.2.2.2.2.2.1; have g6 := hg.1.2.2.2.2.2.2; change 2 ≤ f6 24 ∧ f6 24 ≤ 16 at g0; change f6 26 = _ ∧ f6 26 ≤ 10000 at g2; change 0 ≤ f6 27 ∧ f6 27 ≤ 12 at g3; change 0 ≤ f6 28 ∧ f6 28 ≤ 6 at g4; change 0 ≤ f6 29 ∧ f6 29 ≤ 20 at g5; change k21 = 0 → f6 27 = 0 at g6; clear hg))
  (try have gh2 : 0 ≤ f6 26 := by (rw [g2.1]; exact Int.le_of_lt (Int.pow_pos (by (change 0 < f6 24; omega)))))
  (try simp (disch := omega) only [i32_id] at *)
  (try have w1 := lnQ_eq (P' := fun p => if f5 4 = 0 then firstP (s.2 4) (s.1 6) (rep f6 f7 f8 f9 k21) p else lineP (s.2 4) (s.1 6) (rep f6 f7 f8 f9 k21) p) q_26.1 (fun p => if_neg c_12))
  (try have w1 := lnQ_eq (P' := fun p => if f5 4 = 0 then firstP (s.2 4) (s.1 6) (rep f6 f7 f8 f9 k21) p else lineP (s.2 4) (s.1 6) (rep f6 f7 f8 f9 k21) p) q_47.1 (fun p => if_pos c_12))
  (try have w2 := w1.1)
  (try have w3 := q_37.1)
  (try have w3 := q_58.1)
  (try unfold lex3)
  (try simp only [bI_0, bI_n, Classical.not_not] at *)
  (try simp (disch := omega) only [i32_id] at *)
  first | done | omega | ((repeat' (with_reducible apply And.intro)) <;> first | assumption | rfl | omega | (exact tab_ok (TI_end4 hT (by assumption) (by assumption) (by omega)) rfl (by assumption) i5 i6 i7 i8 i9) | (exact tab_err (hT.2 (by assumption)) (by assumption) i5 i6 i7 i8 i9) | (exact i5) | (exact i6) | (exact i7) | (exact i8) | (exact i9) | (intro z hz; rw [upI_n _ _ hz]; exact i5 z hz) | (intro z hz; rw [upI_n _ _ hz]) | (intro z hz; rw [q_47.2 z (by omega)]; exact i6 z hz) | (intro z hz; rw [q_26.2.1 z hz]; exact i6 z hz) | (intro z hz; rw [q_26.2.2.1 z hz]; exact i7 z hz) | (intro z hz; rw [q_26.2.2.2.1 z hz]; exact i8 z hz) | (intro z hz; rw [q_26.2.2.2.2 z hz]; exact i9 z hz) | (exact TI_bad hT (by assumption) (by assumption) w1 (by assumption)) | (exact TI_go hT (by assumption) (by assumption) w1 (by assumption) q_37 rfl) | (exact TI_go hT (by assumption) (by assumption) w1 (by assumption) q_58 rfl) | (exact TI_begin hp.1 hp.2 GR_0) | (have h9 := enx_b (t := s.2 4) hp.1; omega) | (intro z hz; exact if_neg (by omega)) | grind [upI])
theorem vX3_table_23 (s : MS) (hp : 0 ≤ (s.1 6) ∧ (s.1 6) ≤ 800) : (0 ≤ (s.1 6) ∧ (s.1 6) ≤ 800) := by
  (try (have h2 := hI; obtain ⟨i0, ⟨i1, i2, i3⟩, i4, i5, i6, i7, i8, i9, hT⟩ := h2; subst i0 i1 i2 i3))
  (try simp only [bI_0, bI_n, Classical.not_not, Int.add_zero, Int.reduceAdd, upI_s] at *)
  (try have hb := TI_b hT (by assumption))
  (try have hg := hb.2.2 (by assumption))
  (try (have g0 := hg.1.1; have g2 := hg.1.2.2.1; have g3 := hg.1.2.2.2.1; have g4 := hg.1.2.2.2.2.1; have g5 := hg.1.2.2.2.2.2.1; have g6 := hg.1.2.2.2.2.2.2; change 2 ≤ f6 24 ∧ f6 24 ≤ 16 at g0; change f6 26 = _ ∧ f6 26 ≤ 10000 at g2; change 0 ≤ f6 27 ∧ f6 27 ≤ 12 at g3; change 0 ≤ f6 28 ∧ f6 28 ≤ 6 at g4; change 0 ≤ f6 29 ∧ f6 29 ≤ 20 at g5; change k21 = 0 → f6 27 = 0 at g6; clear hg))
  (try have gh2 : 0 ≤ f6 26 := by (rw [g2.1]; exact Int.le_of_lt (Int.pow_pos (by (change 0 < f6 24; omega)))))
  (try simp (disch := omega) only [i32_id] at *)
  (try have w1 := lnQ_eq (P' := fun p => if f5 4 = 0 then firstP (s.2 4) (s.1 6) (rep f6 f7 f8 f9 k21) p else lineP (s.2 4) (s.1 6) (rep f6 f7 f8 f9 k21) p) q_26.1 (fun p => if_neg c_12))
  (try have w1 := lnQ_eq (P' := fun p => if f5 4 = 0 then firstP (s.2 4) (s.1 6) (rep f6 f7 f8 f9 k21) p else lineP (s.2 4) (s.1 6) (rep f6 f7 f8 f9 k21) p) q_47.1 (fun p => if_pos c_12))
  (try have w2 := w1.1)
  (try have w3 := q_37.1)
  (try have w3 := q_58.1)
  (try unfold lex3)
  (try simp only [bI_0, bI_n, Classical.not_not] at *)
  (try simp (disch := omega) only [i32_id] at *)
  first | done | omega | ((repeat' (with_reducible apply And.intro)) <;> first | assumption | rfl | omega | (exact tab_ok (TI_end4 hT (by assumption) (by assumption) (by omega)) rfl (by assumption) i5 i6 i7 i8 i9) | (exact tab_err (hT.2 (by assumption)) (by assumption) i5 i6 i7 i8 i9) | (exact i5) | (exact i6) | (exact i7) | (exact i8) | (exact i9) | (intro z hz; rw [upI_n _ _ hz]; exact i5 z hz) | (intro z hz; rw [upI_n _ _ hz]) | (intro z hz; rw [q_47.2 z (by omega)]; exact i6 z hz) | (intro z hz; rw [q_26.2.1 z hz]; exact i6 z hz) | (intro z hz; rw [q_26.2.2.1 z hz]; exact i7 z hz) | (intro z hz; rw [q_26.2.2.2.1 z hz]; exact i8 z hz) | (intro z hz; rw [q_26.2.2.2.2 z hz]; exact i9 z hz) | (exact TI_bad hT (by assumption) (by assumption) w1 (by assumption)) | (exact TI_go hT (by assumption) (by assumption) w1 (by assumption) q_37 rfl) | (exact TI_go hT (by assumption) (by assumption) w1 (by assumption) q_58 rfl) | (exact TI_begin hp.1 hp.2 GR_0) | (have h9 := enx_b (t := s.2 4) hp.1; omega) | (intro z hz; exact if_neg (by omega)) | grind [upI])
theorem vX3_table_24 (s : MS) (hp : 0 ≤ (s.1 6) ∧ (s.1 6) ≤ 800) (o_2 : (0 ≤ (s.1 6) ∧ (s.1 6) ≤ 800)) : (0 : Int) = 0 ∧ ((s.1 6) = s.1 6 ∧ (s.1 14) = s.1 14 ∧ (s.1 15) = s.1 15) ∧ (0 ≤ (enx (s.2 4) (s.1 6) 0) ∧ (enx (s.2 4) (s.1 6) 0) ≤ s.1 6) ∧ (∀ z, z ≠ 4 → (upI (s.2 5) 4 0) z = s.2 5 z) ∧ (∀ z, z < 24 → (fillC (s.2 6) 24 6 0) z = s.2 6 z) ∧ (∀ z, z < 96 → (s.2 7) z = s.2 7 z) ∧ (∀ z, z < 96 → (s.2 8) z = s.2 8 z) ∧ (∀ z, z < 80 → (s.2 9) z = s.2 9 z) ∧ TI (s.2 4) (s.1 6) (textP (s.2 4) (s.1 6) 801 (rep (fillC (s.2 6) 24 6 0) (s.2 7) (s.2 8) (s.2 9) 0) 0 0) (rep (fillC (s.2 6) 24 6 0) (s.2 7) (s.2 8) (s.2 9) ((0) : Int)) ((upI (s.2 5) 4 0) 4) (enx (s.2 4) (s.1 6) 0) (knd (s.2 4) (s.1 6) 0) (plc (s.2 4) (s.1 6) 0) (vlu (s.2 4) (s.1 6) 0) (wrd (s.2 4) (s.1 6) 0) ((0) : Int) ((-1) : Int) := by
  (try (have h2 := hI; obtain ⟨i0, ⟨i1, i2, i3⟩, i4, i5, i6, i7, i8, i9, hT⟩ := h2; subst i0 i1 i2 i3))
  (try simp only [bI_0, bI_n, Classical.not_not, Int.add_zero, Int.reduceAdd, upI_s] at *)
  (try have hb := TI_b hT (by assumption))
  (try have hg := hb.2.2 (by assumption))
  (try (have g0 := hg.1.1; have g2 := hg.1.2.2.1; have g3 := hg.1.2.2.2.1; have g4 := hg.1.2.2.2.2.1; have g5 := hg.1.2.2.2.2.2.1; have g6 := hg.1.2.2.2.2.2.2; change 2 ≤ f6 24 ∧ f6 24 ≤ 16 at g0; change f6 26 = _ ∧ f6 26 ≤ 10000 at g2; change 0 ≤ f6 27 ∧ f6 27 ≤ 12 at g3; change 0 ≤ f6 28 ∧ f6 28 ≤ 6 at g4; change 0 ≤ f6 29 ∧ f6 29 ≤ 20 at g5; change k21 = 0 → f6 27 = 0 at g6; clear hg))
  (try have gh2 : 0 ≤ f6 26 := by (rw [g2.1]; exact Int.le_of_lt (Int.pow_pos (by (change 0 < f6 24; omega)))))
  (try simp (disch := omega) only [i32_id] at *)
  (try have w1 := lnQ_eq (P' := fun p => if f5 4 = 0 then firstP (s.2 4) (s.1 6) (rep f6 f7 f8 f9 k21) p else lineP (s.2 4) (s.1 6) (rep f6 f7 f8 f9 k21) p) q_26.1 (fun p => if_neg c_12))
  (try have w1 := lnQ_eq (P' := fun p => if f5 4 = 0 then firstP (s.2 4) (s.1 6) (rep f6 f7 f8 f9 k21) p else lineP (s.2 4) (s.1 6) (rep f6 f7 f8 f9 k21) p) q_47.1 (fun p => if_pos c_12))
  (try have w2 := w1.1)
  (try have w3 := q_37.1)
  (try have w3 := q_58.1)
  (try unfold lex3)
  (try simp only [bI_0, bI_n, Classical.not_not] at *)
  (try simp (disch := omega) only [i32_id] at *)
  first | done | omega | ((repeat' (with_reducible apply And.intro)) <;> first | assumption | rfl | omega | (exact tab_ok (TI_end4 hT (by assumption) (by assumption) (by omega)) rfl (by assumption) i5 i6 i7 i8 i9) | (exact tab_err (hT.2 (by assumption)) (by assumption) i5 i6 i7 i8 i9) | (exact i5) | (exact i6) | (exact i7) | (exact i8) | (exact i9) | (intro z hz; rw [upI_n _ _ hz]; exact i5 z hz) | (intro z hz; rw [upI_n _ _ hz]) | (intro z hz; rw [q_47.2 z (by omega)]; exact i6 z hz) | (intro z hz; rw [q_26.2.1 z hz]; exact i6 z hz) | (intro z hz; rw [q_26.2.2.1 z hz]; exact i7 z hz) | (intro z hz; rw [q_26.2.2.2.1 z hz]; exact i8 z hz) | (intro z hz; rw [q_26.2.2.2.2 z hz]; exact i9 z hz) | (exact TI_bad hT (by assumption) (by assumption) w1 (by assumption)) | (exact TI_go hT (by assumption) (by assumption) w1 (by assumption) q_37 rfl) | (exact TI_go hT (by assumption) (by assumption) w1 (by assumption) q_58 rfl) | (exact TI_begin hp.1 hp.2 GR_0) | (have h9 := enx_b (t := s.2 4) hp.1; omega) | (intro z hz; exact if_neg (by omega)) | grind [upI])
theorem allX3_table (b : AH) (s : MS) (hp : 0 ≤ (s.1 6) ∧ (s.1 6) ≤ 800) : ∀ m1 m2 m3 : Nat, (∀ (f5 : Int → Int) (f6 : Int → Int) (f7 : Int → Int) (f8 : Int → Int) (f9 : Int → Int) (k0 : Int) (k6 : Int) (k7 : Int) (k8 : Int) (k9 : Int) (k10 : Int) (k11 : Int) (k12 : Int) (k13 : Int) (k14 : Int) (k15 : Int) (k21 : Int), m1 = 0 → m2 = 0 → m3 = (if k12 = 0 then (801 - f5 4).toNat else 0) → (k0 = 0 ∧ (k6 = s.1 6 ∧ k14 = s.1 14 ∧ k15 = s.1 15) ∧ (0 ≤ k7 ∧ k7 ≤ s.1 6) ∧ (∀ z, z ≠ 4 → f5 z = s.2 5 z) ∧ (∀ z, z < 24 → f6 z = s.2 6 z) ∧ (∀ z, z < 96 → f7 z = s.2 7 z) ∧ (∀ z, z < 96 → f8 z = s.2 8 z) ∧ (∀ z, z < 80 → f9 z = s.2 9 z) ∧ TI (s.2 4) (s.1 6) (textP (s.2 4) (s.1 6) 801 (rep (fillC (s.2 6) 24 6 0) (s.2 7) (s.2 8) (s.2 9) 0) 0 0) (rep f6 f7 f8 f9 k21) (f5 4) k7 k8 k9 k10 k11 k12 k13) → HX3_table_13 (QX3_table s) b s f5 f6 f7 f8 f9 k0 k6 k7 k8 k9 k10 k11 k12 k13 k14 k15 k21) := by
  refine lex3_ind ?_
  intro m1 m2 m3 ih
  rintro f5 f6 f7 f8 f9 k0 k6 k7 k8 k9 k10 k11 k12 k13 k14 k15 k21 rfl rfl rfl hI
  refine bX3_table_13 b s f5 f6 f7 f8 f9 k0 k6 k7 k8 k9 k10 k11 k12 k13 k14 k15 k21 ?_
  refine ⟨fun c_2 => ?_, fun c_2 => ?_⟩
  · refine ⟨fun c_4 => ?_, fun c_4 => ?_⟩
    · have o_5 : ((0 ≤ (4 : Int) ∧ (4 : Int) ≤ 4) ∧ (0 ≤ (0 : Int) ∧ (0 : Int) ≤ 4) ∧ (4 : Int) ≠ (0 : Int)) := (vX3_table_1 s hp f5 f6 f7 f8 f9 k0 k6 k7 k8 k9 k10 k11 k12 k13 k14 k15 k21 hI c_2 c_4)
      refine ⟨o_5, ?_⟩
      exact ⟨(cpT 1 (4 : Int) (0 : Int) f5), (cpT 6 (4 : Int) (0 : Int) f6), (cpT 24 (4 : Int) (0 : Int) f7), (cpT 24 (4 : Int) (0 : Int) f8), (cpT 20 (4 : Int) (0 : Int) f9), k7, k8, k9, k10, k11, k12, k13, (k12), (if k12 = 0 then -1 else k13), k21, ((cpT 1 (4 : Int) (0 : Int) f5) 0), rfl, (sS_c (sS_c (sS_c (sS_c (sS_c (sS_c (sS_c (sS_c (sS_c (sS_c (sS_c (sS_c (sA_c (sA_c (sA_c (sA_c (sA_c rfl rfl) rfl) rfl) rfl) rfl) (vX3_table_2 s hp f5 f6 f7 f8 f9 k0 k6 k7 k8 k9 k10 k11 k12 k13 k14 k15 k21 hI c_2 c_4 o_5)) rfl) rfl) rfl) rfl) rfl) rfl) rfl) rfl) rfl) rfl) rfl), (vX3_table_3 s hp f5 f6 f7 f8 f9 k0 k6 k7 k8 k9 k10 k11 k12 k13 k14 k15 k21 hI c_2 c_4 o_5)⟩
    · exact ⟨f5, f6, f7, f8, f9, k7, k8, k9, k10, k11, k12, k13, (k12), (if k12 = 0 then -1 else k13), k21, (-4), rfl, (sS_c (sS_c (sS_c (sS_c (sS_c (sS_c (sS_c (sS_c (sS_c (sS_c (sS_c (sS_c (sA_c (sA_c (sA_c (sA_c (sA_c rfl rfl) rfl) rfl) rfl) rfl) (vX3_table_4 s hp f5 f6 f7 f8 f9 k0 k6 k7 k8 k9 k10 k11 k12 k13 k14 k15 k21 hI c_2 c_4)) rfl) rfl) rfl) rfl) rfl) rfl) rfl) rfl) rfl) rfl) rfl), (vX3_table_5 s hp f5 f6 f7 f8 f9 k0 k6 k7 k8 k9 k10 k11 k12 k13 k14 k15 k21 hI c_2 c_4)⟩
  · refine ⟨fun c_7 => ?_, fun c_7 => ?_⟩
    · refine ⟨fun c_9 => ?_, fun c_9 => ?_⟩
      · have o_10 : ((0 ≤ (4 : Int) ∧ (4 : Int) ≤ 4) ∧ (0 ≤ (0 : Int) ∧ (0 : Int) ≤ 4) ∧ (4 : Int) ≠ (0 : Int)) := (vX3_table_6 s hp f5 f6 f7 f8 f9 k0 k6 k7 k8 k9 k10 k11 k12 k13 k14 k15 k21 hI c_2 c_7 c_9)
        refine ⟨o_10, ?_⟩
        exact ⟨(cpT 1 (4 : Int) (0 : Int) f5), (cpT 6 (4 : Int) (0 : Int) f6), (cpT 24 (4 : Int) (0 : Int) f7), (cpT 24 (4 : Int) (0 : Int) f8), (cpT 20 (4 : Int) (0 : Int) f9), k7, k8, k9, k10, k11, k12, k13, (k12), (if k12 = 0 then -1 else k13), k21, ((cpT 1 (4 : Int) (0 : Int) f5) 0), rfl, (sS_c (sS_c (sS_c (sS_c (sS_c (sS_c (sS_c (sS_c (sS_c (sS_c (sS_c (sS_c (sA_c (sA_c (sA_c (sA_c (sA_c rfl rfl) rfl) rfl) rfl) rfl) (vX3_table_7 s hp f5 f6 f7 f8 f9 k0 k6 k7 k8 k9 k10 k11 k12 k13 k14 k15 k21 hI c_2 c_7 c_9 o_10)) rfl) rfl) rfl) rfl) rfl) rfl) rfl) rfl) rfl) rfl) rfl), (vX3_table_8 s hp f5 f6 f7 f8 f9 k0 k6 k7 k8 k9 k10 k11 k12 k13 k14 k15 k21 hI c_2 c_7 c_9 o_10)⟩
      · exact ⟨f5, f6, f7, f8, f9, k7, k8, k9, k10, k11, k12, k13, (k12), (if k12 = 0 then -1 else k13), k21, (-4), rfl, (sS_c (sS_c (sS_c (sS_c (sS_c (sS_c (sS_c (sS_c (sS_c (sS_c (sS_c (sS_c (sA_c (sA_c (sA_c (sA_c (sA_c rfl rfl) rfl) rfl) rfl) rfl) (vX3_table_9 s hp f5 f6 f7 f8 f9 k0 k6 k7 k8 k9 k10 k11 k12 k13 k14 k15 k21 hI c_2 c_7 c_9)) rfl) rfl) rfl) rfl) rfl) rfl) rfl) rfl) rfl) rfl) rfl), (vX3_table_10 s hp f5 f6 f7 f8 f9 k0 k6 k7 k8 k9 k10 k11 k12 k13 k14 k15 k21 hI c_2 c_7 c_9)⟩
    · refine ⟨fun c_12 => ?_, fun c_12 => ?_⟩
      · have o_13 : (0 ≤ k7 ∧ k7 ≤ k6 ∧ k6 ≤ 800 ∧ k12 = 0 ∧ (0 ≤ f6 24 ∧ f6 24 ≤ 100) ∧ (k21 = 0 → f6 27 = 0) ∧ (0 ≤ f6 28 ∧ f6 28 ≤ 6) ∧ (0 ≤ f6 29 ∧ f6 29 ≤ 20) ∧ (0 ≤ f6 26 ∧ f6 26 ≤ 200000)) := (vX3_table_11 s hp f5 f6 f7 f8 f9 k0 k6 k7 k8 k9 k10 k11 k12 k13 k14 k15 k21 hI c_2 c_7 c_12)
        refine ⟨o_13, ?_⟩
        intro f_14 f_15 f_16 f_17 k_18 k_19 k_20 k_21 k_22 k_23 k_24 k_25 q_26
        refine ⟨fun c_28 => ?_, fun c_28 => ?_⟩
        · exact (ih _ _ _ (vX3_table_13 s hp f5 f6 f7 f8 f9 k0 k6 k7 k8 k9 k10 k11 k12 k13 k14 k15 k21 hI c_2 c_7 c_12 o_13 f_14 f_15 f_16 f_17 k_18 k_19 k_20 k_21 k_22 k_23 k_24 k_25 q_26 c_28)) (upI f5 4 (i32 ((f5 4) + 1))) f_14 f_15 f_16 f_17 k0 k6 k_18 k_19 k_20 k_21 k_22 k_23 k_24 k14 k15 k_25 rfl rfl rfl (vX3_table_12 s hp f5 f6 f7 f8 f9 k0 k6 k7 k8 k9 k10 k11 k12 k13 k14 k15 k21 hI c_2 c_7 c_12 o_13 f_14 f_15 f_16 f_17 k_18 k_19 k_20 k_21 k_22 k_23 k_24 k_25 q_26 c_28)
        · have o_29 : (0 ≤ k_18 ∧ k_18 ≤ k6 ∧ k6 ≤ 800) := (vX3_table_14 s hp f5 f6 f7 f8 f9 k0 k6 k7 k8 k9 k10 k11 k12 k13 k14 k15 k21 hI c_2 c_7 c_12 o_13 f_14 f_15 f_16 f_17 k_18 k_19 k_20 k_21 k_22 k_23 k_24 k_25 q_26 c_28)
          refine ⟨o_29, ?_⟩
          intro k_30 k_31 k_32 k_33 k_34 k_35 k_36 q_37
          exact (ih _ _ _ (vX3_table_16 s hp f5 f6 f7 f8 f9 k0 k6 k7 k8 k9 k10 k11 k12 k13 k14 k15 k21 hI c_2 c_7 c_12 o_13 f_14 f_15 f_16 f_17 k_18 k_19 k_20 k_21 k_22 k_23 k_24 k_25 q_26 c_28 o_29 k_30 k_31 k_32 k_33 k_34 k_35 k_36 q_37)) (upI f5 4 (i32 ((f5 4) + 1))) f_14 f_15 f_16 f_17 k0 k6 k_30 k_31 k_32 k_33 k_34 k_35 k_36 k14 k15 k_25 rfl rfl rfl (vX3_table_15 s hp f5 f6 f7 f8 f9 k0 k6 k7 k8 k9 k10 k11 k12 k13 k14 k15 k21 hI c_2 c_7 c_12 o_13 f_14 f_15 f_16 f_17 k_18 k_19 k_20 k_21 k_22 k_23 k_24 k_25 q_26 c_28 o_29 k_30 k_31 k_32 k_33 k_34 k_35 k_36 q_37)
      · have o_38 : (0 ≤ k7 ∧ k7 ≤ k6 ∧ k6 ≤ 800 ∧ k12 = 0) := (vX3_table_17 s hp f5 f6 f7 f8 f9 k0 k6 k7 k8 k9 k10 k11 k12 k13 k14 k15 k21 hI c_2 c_7 c_12)
        refine ⟨o_38, ?_⟩
        intro f_39 k_40 k_41 k_42 k_43 k_44 k_45 k_46 q_47
        refine ⟨fun c_49 => ?_, fun c_49 => ?_⟩
        · exact (ih _ _ _ (vX3_table_19 s hp f5 f6 f7 f8 f9 k0 k6 k7 k8 k9 k10 k11 k12 k13 k14 k15 k21 hI c_2 c_7 c_12 o_38 f_39 k_40 k_41 k_42 k_43 k_44 k_45 k_46 q_47 c_49)) (upI f5 4 (i32 ((f5 4) + 1))) f_39 f7 f8 f9 k0 k6 k_40 k_41 k_42 k_43 k_44 k_45 k_46 k14 k15 k21 rfl rfl rfl (vX3_table_18 s hp f5 f6 f7 f8 f9 k0 k6 k7 k8 k9 k10 k11 k12 k13 k14 k15 k21 hI c_2 c_7 c_12 o_38 f_39 k_40 k_41 k_42 k_43 k_44 k_45 k_46 q_47 c_49)
        · have o_50 : (0 ≤ k_40 ∧ k_40 ≤ k6 ∧ k6 ≤ 800) := (vX3_table_20 s hp f5 f6 f7 f8 f9 k0 k6 k7 k8 k9 k10 k11 k12 k13 k14 k15 k21 hI c_2 c_7 c_12 o_38 f_39 k_40 k_41 k_42 k_43 k_44 k_45 k_46 q_47 c_49)
          refine ⟨o_50, ?_⟩
          intro k_51 k_52 k_53 k_54 k_55 k_56 k_57 q_58
          exact (ih _ _ _ (vX3_table_22 s hp f5 f6 f7 f8 f9 k0 k6 k7 k8 k9 k10 k11 k12 k13 k14 k15 k21 hI c_2 c_7 c_12 o_38 f_39 k_40 k_41 k_42 k_43 k_44 k_45 k_46 q_47 c_49 o_50 k_51 k_52 k_53 k_54 k_55 k_56 k_57 q_58)) (upI f5 4 (i32 ((f5 4) + 1))) f_39 f7 f8 f9 k0 k6 k_51 k_52 k_53 k_54 k_55 k_56 k_57 k14 k15 k21 rfl rfl rfl (vX3_table_21 s hp f5 f6 f7 f8 f9 k0 k6 k7 k8 k9 k10 k11 k12 k13 k14 k15 k21 hI c_2 c_7 c_12 o_38 f_39 k_40 k_41 k_42 k_43 k_44 k_45 k_46 q_47 c_49 o_50 k_51 k_52 k_53 k_54 k_55 k_56 k_57 q_58)
theorem ctX3_table (b : AH) (s : MS) (hp : 0 ≤ (s.1 6) ∧ (s.1 6) ≤ 800) : MC mX3_table 8 b s [] (QX3_table s) := by
  refine MC.of (by decide) rfl (Nat.le_of_ble_eq_true rfl) (JW.steq (s2 := sS (sS (sS (sS (sS (sS (sS (sS (sS (sS (sS (sS (sA (sA (sA (sA (sA s 5 (s.2 5)) 6 (s.2 6)) 7 (s.2 7)) 8 (s.2 8)) 9 (s.2 9)) 0 (s.1 0)) 6 (s.1 6)) 7 (s.1 7)) 8 (s.1 8)) 9 (s.1 9)) 10 (s.1 10)) 11 (s.1 11)) 12 (s.1 12)) 13 (s.1 13)) 14 (s.1 14)) 15 (s.1 15)) 21 (s.1 21)) (by simp only [sA_id, sS_id]) ?_)
  refine bX3_table_0 b s (s.2 5) (s.2 6) (s.2 7) (s.2 8) (s.2 9) (s.1 0) (s.1 6) (s.1 7) (s.1 8) (s.1 9) (s.1 10) (s.1 11) (s.1 12) (s.1 13) (s.1 14) (s.1 15) (s.1 21) ?_
  have o_2 : (0 ≤ (s.1 6) ∧ (s.1 6) ≤ 800) := (vX3_table_23 s hp)
  refine ⟨o_2, ?_⟩
  exact (allX3_table b s hp _ _ _) (upI (s.2 5) 4 0) (fillC (s.2 6) 24 6 0) (s.2 7) (s.2 8) (s.2 9) 0 (s.1 6) (enx (s.2 4) (s.1 6) 0) (knd (s.2 4) (s.1 6) 0) (plc (s.2 4) (s.1 6) 0) (vlu (s.2 4) (s.1 6) 0) (wrd (s.2 4) (s.1 6) 0) (0) (-1) (s.1 14) (s.1 15) (0) rfl rfl rfl (vX3_table_24 s hp o_2)
